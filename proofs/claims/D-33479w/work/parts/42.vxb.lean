/-! board, desk (printed by gen2.py) -/
set_option maxRecDepth 100000
def V_X5_everything_0 (l : Launch) (G : aG) (d mc ms : Nat) (P : aR → aH → Prop) (x0 : Nat) (h : aH) : Prop :=
  vR h x0 5 0 fun a1 =>
  vI h a1 3 5 fun y2 =>
  P (.inl (some (.int (((1 : Int32) <<< ((y2 + (1 : Int32)) &&& 31)) - (1 : Int32))))) h
set_option maxHeartbeats 4000000 in
theorem A_X5_everything {l : Launch} {G : aG} {d mc ms : Nat} {P : aR → aH → Prop} {x0 : Nat} {h : aH} (hl : l.stackTraces = false) (hv : V_X5_everything_0 l G d mc ms P x0 h) : aC l G mX5_everything (wsN mX5_everything) d mc ms [.ref x0] h P := by
  refine aC_ofF (M := mX5_everything) rfl pX5_everything (Nat.le_of_ble_eq_true rfl) hl ?_
  refine aw_eqv (lv2 := [(0, .ref x0)]) rfl rfl rfl rfl ?_
  unfold V_X5_everything_0 at hv
  refine aw_iconst (v := 1) dX5_everything_0 (by decide) ?_
  refine aw_aload_n 0 (x := x0) dX5_everything_1 rfl rfl ?_
  obtain ⟨fs, a1, he, hx, hv⟩ := hv
  refine aw_get (v := .ref a1) he rfl in_X5 0 (by decide) q376 (Or.inl rfl) hx dX5_everything_2 ?_
  obtain ⟨fs, y2, he, hx, hv⟩ := hv
  refine aw_getN (v := .int y2) he rfl in_X3 5 (by decide) q333 (Or.inl rfl) hx dX5_everything_5 ?_
  refine aw_iconst (v := 1) dX5_everything_8 (by decide) ?_
  refine aw_iadd dX5_everything_9 ?_
  refine aw_ishl dX5_everything_10 ?_
  refine aw_iconst (v := 1) dX5_everything_11 (by decide) ?_
  refine aw_isub dX5_everything_12 ?_
  exact aw_iret rfl dX5_everything_13 hv (Nat.zero_le _) (Nat.zero_le _)
def T_X5_clear_4 (l : Launch) (G : aG) (d mc ms : Nat) (P : aR → aH → Prop) (x0 : Nat) (x1 : Int32) (x2 : Int32) (h : aH) (c s : Nat) : Prop := c ≤ mc → s ≤ ms → AW l G mX5_clear d mc ms P 4 [(0, .ref x0), (1, .int x1), (2, .int x2)] [] h c s
def V_X5_clear_4 (l : Launch) (G : aG) (d mc ms : Nat) (P : aR → aH → Prop) (x0 : Nat) (x1 : Int32) (x2 : Int32) (h : aH) (c s : Nat) : Prop :=
  vR h x0 5 0 fun a1 =>
  vIs h a1 3 (
  vC l G mX3_cellCount (wsN mX3_cellCount) d mc ms [.ref a1] h c s (xP P) (kI fun y2 h3 c4 s5 => 
  (y2 ≤ x2 → 
    P (.inl (some (.int x1))) h3
    ) ∧ (¬ y2 ≤ x2 → 
    vR h3 x0 5 1 fun a7 =>
    vA .int h3 a7 x2 fun y8 =>
    vIs h3 x0 5 (
    vC l G mX5_everything (wsN mX5_everything) d mc ms [.ref x0] h3 c4 s5 (xP P) (kI fun y9 h10 c11 s12 => 
    ∀ v14 : Int32, v14 = (x1 + (if y8 = y9 then (0 : Int32) else 1)) →
    vR h10 x0 5 1 fun a15 =>
    vIs h10 x0 5 (
    vC l G mX5_everything (wsN mX5_everything) d mc ms [.ref x0] h10 c11 s12 (xP P) (kI fun y16 h17 c18 s19 => 
    vSt .int h17 a15 x2 y16 fun h20 =>
    T_X5_clear_4 l G d mc ms P x0 v14 (x2 + 1) h20 c18 s19))))
    )))
set_option maxHeartbeats 4000000 in
theorem A_X5_clear_4 {l : Launch} {G : aG} {d mc ms : Nat} {P : aR → aH → Prop} {x0 : Nat} {x1 : Int32} {x2 : Int32} {h : aH} {c s : Nat} (hl : l.stackTraces = false) (hv : V_X5_clear_4 l G d mc ms P x0 x1 x2 h c s) : T_X5_clear_4 l G d mc ms P x0 x1 x2 h c s := by
  intro hc hs
  unfold V_X5_clear_4 at hv
  refine aw_iload_n 2 dX5_clear_4 rfl rfl ?_
  refine aw_aload_n 0 (x := x0) dX5_clear_5 rfl rfl ?_
  obtain ⟨fs, a1, he, hx, hv⟩ := hv
  refine aw_get (v := .ref a1) he rfl in_X5 0 (by decide) q376 (Or.inl rfl) hx dX5_clear_6 ?_
  obtain ⟨⟨fs, he⟩, hv⟩ := hv
  obtain ⟨d2, mc2, ms2, Q, hM, hd9, hc9, hs9, hv, hx⟩ := hv
  refine aw_callV (rest := [.int x2]) hM he rfl rfl nX3_cellCount q368 q369 q370 q121 q371 dX5_clear_9 rfl hd9 (by decide) (Nat.le_of_ble_eq_true rfl) hc9 hs9 ?_ ?_
  rotate_left
  · exact fun E h2 q => aX_out (hx E h2 q) rfl hc9 hs9
  intro v9 h3 hq
  have hv := hv v9 h3 hq
  obtain ⟨y2, rfl, hv⟩ := hv
  refine aw_eqv (pc2 := 12) (st2 := [.int y2, .int x2]) rfl rfl rfl rfl ?_
  revert hv hc9 hs9; generalize c + mc2 = c4; generalize s + ms2 = s5; intro hc9 hs9 hv
  refine aw_icmp_ge 52 dX5_clear_12 (by decide) (fun c6 => ?_) (fun c6 => ?_)
  · have hv := hv.1 c6
    refine aw_iload_n 1 dX5_clear_52 rfl rfl ?_
    exact aw_iret rfl dX5_clear_53 hv hc9 hs9
  · have hv := hv.2 c6
    refine aw_iload_n 1 dX5_clear_15 rfl rfl ?_
    refine aw_aload_n 0 (x := x0) dX5_clear_16 rfl rfl ?_
    obtain ⟨fs, a7, he, hx, hv⟩ := hv
    refine aw_get (v := .ref a7) he rfl in_X5 1 (by decide) q377 (Or.inl rfl) hx dX5_clear_17 ?_
    refine aw_iload_n 2 dX5_clear_20 rfl rfl ?_
    obtain ⟨n9, f9, he, hin, hv⟩ := hv
    refine aw_iald he hin dX5_clear_21 ?_
    revert hv; generalize f9 (x2).toNatClampNeg = y8; intro hv
    refine aw_aload_n 0 (x := x0) dX5_clear_22 rfl rfl ?_
    obtain ⟨⟨fs, he⟩, hv⟩ := hv
    obtain ⟨d2, mc2, ms2, Q, hM, hd9, hc9, hs9, hv, hx⟩ := hv
    refine aw_callV (rest := [.int y8, .int x1]) hM he rfl rfl nX5_everything q372 q373 q374 q132 q375 dX5_clear_23 rfl hd9 (by decide) (Nat.le_of_ble_eq_true rfl) hc9 hs9 ?_ ?_
    rotate_left
    · exact fun E h2 q => aX_out (hx E h2 q) rfl hc9 hs9
    intro v9 h10 hq
    have hv := hv v9 h10 hq
    obtain ⟨y9, rfl, hv⟩ := hv
    refine aw_eqv (pc2 := 26) (st2 := [.int y9, .int y8, .int x1]) rfl rfl rfl rfl ?_
    revert hv hc9 hs9; generalize c4 + mc2 = c11; generalize s5 + ms2 = s12; intro hc9 hs9 hv
    have J9 : AW l G mX5_clear d mc ms P 34 [(0, .ref x0), (1, .int x1), (2, .int x2)] [.int (if y8 = y9 then (0 : Int32) else 1), .int x1] h10 c11 s12 := by
      refine aw_iadd dX5_clear_34 ?_
      refine aw_topi (fun v14 ev14 => ?_)
      have hv := hv v14 ev14
      refine aw_istore_n (lv' := [(1, .int v14), (0, .ref x0), (2, .int x2)]) dX5_clear_35 rfl (Nat.le_of_ble_eq_true rfl) rfl ?_
      refine aw_aload_n 1 (x := x0) dX5_clear_36 rfl rfl ?_
      obtain ⟨fs, a15, he, hx, hv⟩ := hv
      refine aw_get (v := .ref a15) he rfl in_X5 1 (by decide) q377 (Or.inl rfl) hx dX5_clear_37 ?_
      refine aw_iload_n 2 dX5_clear_40 rfl rfl ?_
      refine aw_aload_n 1 (x := x0) dX5_clear_41 rfl rfl ?_
      obtain ⟨⟨fs, he⟩, hv⟩ := hv
      obtain ⟨d2, mc2, ms2, Q, hM, hd9, hc9, hs9, hv, hx⟩ := hv
      refine aw_callV (rest := [.int x2, .ref a15]) hM he rfl rfl nX5_everything q372 q373 q374 q132 q375 dX5_clear_42 rfl hd9 (by decide) (Nat.le_of_ble_eq_true rfl) hc9 hs9 ?_ ?_
      rotate_left
      · exact fun E h2 q => aX_out (hx E h2 q) rfl hc9 hs9
      intro v9 h17 hq
      have hv := hv v9 h17 hq
      obtain ⟨y16, rfl, hv⟩ := hv
      refine aw_eqv (pc2 := 45) (st2 := [.int y16, .int x2, .ref a15]) rfl rfl rfl rfl ?_
      revert hv hc9 hs9; generalize c11 + mc2 = c18; generalize s12 + ms2 = s19; intro hc9 hs9 hv
      obtain ⟨n9, f9, he, hin, hv⟩ := hv
      refine aw_iast he hin rfl dX5_clear_45 ?_
      revert hv; generalize aUp h17 a15 (aInts .int n9 (upd f9 (x2).toNatClampNeg y16)) = h20; intro hv
      refine aw_iinc 2 (v := x2 + 1) (lv' := [(2, .int (x2 + 1)), (1, .int v14), (0, .ref x0)]) dX5_clear_46 rfl rfl (Nat.le_of_ble_eq_true rfl) rfl ?_
      refine aw_goto 4 dX5_clear_49 (by decide) ?_
      refine aw_sub [2, 1, 0] rfl ?_
      exact hv hc9 hs9
    refine aw_icmp_ne 33 dX5_clear_26 (by decide) (fun c13 => ?_) (fun c13 => ?_)
    · have J9 := aw_ifF c13 J9
      refine aw_iconst (v := 1) dX5_clear_33 (by decide) ?_
      exact J9
    · have J9 := aw_ifT c13 J9
      refine aw_iconst (v := 0) dX5_clear_29 (by decide) ?_
      refine aw_goto 34 dX5_clear_30 (by decide) ?_
      exact J9
def V_X5_clear_0 (l : Launch) (G : aG) (d mc ms : Nat) (P : aR → aH → Prop) (x0 : Nat) (h : aH) : Prop :=
  T_X5_clear_4 l G d mc ms P x0 0 0 h 0 0
set_option maxHeartbeats 4000000 in
theorem A_X5_clear {l : Launch} {G : aG} {d mc ms : Nat} {P : aR → aH → Prop} {x0 : Nat} {h : aH} (hl : l.stackTraces = false) (hv : V_X5_clear_0 l G d mc ms P x0 h) : aC l G mX5_clear (wsN mX5_clear) d mc ms [.ref x0] h P := by
  refine aC_ofF (M := mX5_clear) rfl pX5_clear (Nat.le_of_ble_eq_true rfl) hl ?_
  refine aw_eqv (lv2 := [(0, .ref x0)]) rfl rfl rfl rfl ?_
  unfold V_X5_clear_0 at hv
  refine aw_iconst (v := 0) dX5_clear_0 (by decide) ?_
  refine aw_istore_n (lv' := [(1, .int 0), (0, .ref x0)]) dX5_clear_1 rfl (Nat.le_of_ble_eq_true rfl) rfl ?_
  refine aw_iconst (v := 0) dX5_clear_2 (by decide) ?_
  refine aw_istore_n (lv' := [(2, .int 0), (1, .int 0), (0, .ref x0)]) dX5_clear_3 rfl (Nat.le_of_ble_eq_true rfl) rfl ?_
  refine aw_sub [2, 1, 0] rfl ?_
  exact hv (Nat.zero_le _) (Nat.zero_le _)
def V_X5_init_0 (l : Launch) (G : aG) (d mc ms : Nat) (P : aR → aH → Prop) (x0 : Nat) (x1 : Nat) (h : aH) : Prop :=
  1 ≤ d ∧
  vNewA .int h (25 : Int32) mc ms 0 0 fun a1 h2 c3 s4 => h a1 = none →
  vPut h2 x0 5 1 (.ref a1) fun h6 =>
  vMul h6 (5 : Int32) (5 : Int32) mc ms c3 s4 fun a7 h8 c9 s10 => (∀ j, a7 ≤ j → h6 j = none) →
  vPut h8 x0 5 2 (.ref a7) fun h12 =>
  vPut h12 x0 5 0 (.ref x1) fun h13 =>
  vIs h13 x0 5 (
  vC l G mX5_clear (wsN mX5_clear) d mc ms [.ref x0] h13 c9 s10 (xP P) (kI fun y14 h15 c16 s17 => 
  P (.inl none) h15))
set_option maxHeartbeats 4000000 in
theorem A_X5_init {l : Launch} {G : aG} {d mc ms : Nat} {P : aR → aH → Prop} {x0 : Nat} {x1 : Nat} {h : aH} (hl : l.stackTraces = false) (hv : V_X5_init_0 l G d mc ms P x0 x1 h) : aC l G mX5_init (wsN mX5_init) d mc ms [.ref x0, .ref x1] h P := by
  refine aC_ofF (M := mX5_init) rfl pX5_init (Nat.le_of_ble_eq_true rfl) hl ?_
  refine aw_eqv (lv2 := [(0, .ref x0), (1, .ref x1)]) rfl rfl rfl rfl ?_
  unfold V_X5_init_0 at hv
  refine aw_aload_n 0 (x := x0) dX5_init_0 rfl rfl ?_
  obtain ⟨hd9, hv⟩ := hv
  refine aw_objInit q362 q159 q160 hd9 (Nat.le_of_ble_eq_true rfl) dX5_init_1 ?_
  refine aw_aload_n 0 (x := x0) dX5_init_4 rfl rfl ?_
  refine aw_bipush (v := 25) dX5_init_5 (by decide) ?_
  obtain ⟨N9, hn9, hN9, hb9, hc9, hs9, hv⟩ := hv
  refine aw_newa (atype := .int) (ty := .int) (a0 := (N9, .inl fun _ => 0)) rfl 0 rfl q215 (fun _ => rfl) hn9 hN9 (by show _ * 4 ≤ _; omega) (fun _ _ h9 => h9) hc9 hs9 dX5_init_7 (fun a1 g5 => ?_)
  have hv := hv a1 g5 g5
  refine aw_eqv (pc2 := 9) (st2 := [.ref a1, .ref x0]) rfl rfl rfl rfl ?_
  revert hv hc9 hs9; generalize aUp h a1 (.inl (.int, (N9, .inl fun _ => 0))) = h2; generalize 0 + 1 = c3; generalize 0 + N9 = s4; intro hc9 hs9 hv
  obtain ⟨fs, he, hk9, hv⟩ := hv
  refine aw_putF he rfl in_X5 tyX5_ok nmX5 1 (by decide) q377 (Or.inl rfl) rfl rfl rfl rfl rfl hk9 rfl dX5_init_9 ?_
  revert hv; generalize aUp h2 x0 (.inr (5, fs.set 1 (.ref a1))) = h6; intro hv
  refine aw_aload_n 0 (x := x0) dX5_init_12 rfl rfl ?_
  refine aw_iconst (v := 5) dX5_init_13 (by decide) ?_
  refine aw_iconst (v := 5) dX5_init_14 (by decide) ?_
  obtain ⟨N9, M9, hn9, hk9, hN9, hM9, hb9, hb8, hc9, hs9, hv⟩ := hv
  refine aw_multi q363 q174 q215 hn9 hk9 hN9 hM9 hb9 hb8 hc9 hs9 dX5_init_15 (fun a7 g11 => ?_)
  have hv := hv a7 g11 g11
  rw [← Nat.add_assoc] at hc9
  rw [← Nat.add_assoc] at hs9
  refine aw_eqv (pc2 := 19) (st2 := [.ref a7, .ref x0]) rfl rfl rfl rfl ?_
  revert hv hc9 hs9; generalize aGrid h6 a7 N9 M9 = h8; generalize c3 + 1 + N9 = c9; generalize s4 + N9 + N9 * M9 = s10; intro hc9 hs9 hv
  obtain ⟨fs, he, hk9, hv⟩ := hv
  refine aw_putF he rfl in_X5 tyX5_ok nmX5 2 (by decide) q379 (Or.inl rfl) rfl rfl rfl rfl rfl hk9 rfl dX5_init_19 ?_
  revert hv; generalize aUp h8 x0 (.inr (5, fs.set 2 (.ref a7))) = h12; intro hv
  refine aw_aload_n 0 (x := x0) dX5_init_22 rfl rfl ?_
  refine aw_aload_n 1 (x := x1) dX5_init_23 rfl rfl ?_
  obtain ⟨fs, he, hk9, hv⟩ := hv
  refine aw_putF he rfl in_X5 tyX5_ok nmX5 0 (by decide) q376 (Or.inl rfl) rfl rfl rfl rfl rfl hk9 rfl dX5_init_24 ?_
  revert hv; generalize aUp h12 x0 (.inr (5, fs.set 0 (.ref x1))) = h13; intro hv
  refine aw_aload_n 0 (x := x0) dX5_init_27 rfl rfl ?_
  obtain ⟨⟨fs, he⟩, hv⟩ := hv
  obtain ⟨d2, mc2, ms2, Q, hM, hd9, hc9, hs9, hv, hx⟩ := hv
  refine aw_callV (rest := []) hM he rfl rfl nX5_clear q364 q365 q366 q132 q367 dX5_init_28 rfl hd9 (by decide) (Nat.le_of_ble_eq_true rfl) hc9 hs9 ?_ ?_
  rotate_left
  · exact fun E h2 q => aX_out (hx E h2 q) rfl hc9 hs9
  intro v9 h15 hq
  have hv := hv v9 h15 hq
  obtain ⟨y14, rfl, hv⟩ := hv
  refine aw_eqv (pc2 := 31) (st2 := [.int y14]) rfl rfl rfl rfl ?_
  revert hv hc9 hs9; generalize c9 + mc2 = c16; generalize s10 + ms2 = s17; intro hc9 hs9 hv
  refine aw_pop dX5_init_31 rfl ?_
  exact aw_vret rfl dX5_init_32 hv hc9 hs9
def V_X2_init_0 (l : Launch) (G : aG) (d mc ms : Nat) (P : aR → aH → Prop) (x0 : Nat) (h : aH) : Prop :=
  1 ≤ d ∧
  vNew h 3 8 [.null, .null, .null, .null, .int 0, .int 0, .int 0, .int 0] mc ms 0 0 fun a1 h2 c3 s4 => h a1 = none →
  vC l G mX3_init (wsN mX3_init) d mc ms [.ref a1] h2 c3 s4 (xP P) (kV fun h7 c8 s9 => 
  vPut h7 x0 2 0 (.ref a1) fun h10 =>
  vNew h10 5 3 [.null, .null, .null] mc ms c8 s9 fun a11 h12 c13 s14 => h10 a11 = none →
  vR h12 x0 2 0 fun a16 =>
  vC l G mX5_init (wsN mX5_init) d mc ms [.ref a11, .ref a16] h12 c13 s14 (xP P) (kV fun h18 c19 s20 => 
  vPut h18 x0 2 1 (.ref a11) fun h21 =>
  P (.inl none) h21))
set_option maxHeartbeats 4000000 in
theorem A_X2_init {l : Launch} {G : aG} {d mc ms : Nat} {P : aR → aH → Prop} {x0 : Nat} {h : aH} (hl : l.stackTraces = false) (hv : V_X2_init_0 l G d mc ms P x0 h) : aC l G mX2_init (wsN mX2_init) d mc ms [.ref x0] h P := by
  refine aC_ofF (M := mX2_init) rfl pX2_init (Nat.le_of_ble_eq_true rfl) hl ?_
  refine aw_eqv (lv2 := [(0, .ref x0)]) rfl rfl rfl rfl ?_
  unfold V_X2_init_0 at hv
  refine aw_aload_n 0 (x := x0) dX2_init_0 rfl rfl ?_
  obtain ⟨hd9, hv⟩ := hv
  refine aw_objInit q166 q159 q160 hd9 (Nat.le_of_ble_eq_true rfl) dX2_init_1 ?_
  refine aw_aload_n 0 (x := x0) dX2_init_4 rfl rfl ?_
  obtain ⟨hc9, hs9, hv⟩ := hv
  refine aw_new (N := 8) (fs := [.null, .null, .null, .null, .int 0, .int 0, .int 0, .int 0]) (rfl : aCl[3]? = _) in_X3 tyX3_ok q167 q168 q121 (by decide) hc9 hs9 dX2_init_5 (fun a1 g5 => ?_)
  have hv := hv a1 g5 g5
  refine aw_eqv (pc2 := 8) (st2 := [.ref a1, .ref x0]) rfl rfl rfl rfl ?_
  revert hv hc9 hs9; generalize aUp h a1 (.inr (3, [.null, .null, .null, .null, .int 0, .int 0, .int 0, .int 0])) = h2; generalize 0 + 1 = c3; generalize 0 + 8 = s4; intro hc9 hs9 hv
  refine aw_dup dX2_init_8 rfl ?_
  obtain ⟨d2, mc2, ms2, Q, hM, hd9, hc9, hs9, hv, hx⟩ := hv
  refine aw_callI (rest := [.ref a1, .ref x0]) rfl hM nX3_init rfl q169 q170 q121 q171 dX2_init_9 rfl hd9 (by decide) (Nat.le_of_ble_eq_true rfl) hc9 hs9 ?_ ?_
  rotate_left
  · exact fun E h2 q => aX_out (hx E h2 q) rfl hc9 hs9
  intro v9 h7 hq
  have hv := hv v9 h7 hq
  obtain ⟨rfl, hv⟩ := hv
  refine aw_eqv (pc2 := 12) (st2 := [.ref a1, .ref x0]) rfl rfl rfl rfl ?_
  revert hv hc9 hs9; generalize c3 + mc2 = c8; generalize s4 + ms2 = s9; intro hc9 hs9 hv
  obtain ⟨fs, he, hk9, hv⟩ := hv
  refine aw_putF he rfl in_X2 tyX2_ok nmX2 0 (by decide) q387 (Or.inl rfl) rfl rfl rfl rfl rfl hk9 rfl dX2_init_12 ?_
  revert hv; generalize aUp h7 x0 (.inr (2, fs.set 0 (.ref a1))) = h10; intro hv
  refine aw_aload_n 0 (x := x0) dX2_init_15 rfl rfl ?_
  obtain ⟨hc9, hs9, hv⟩ := hv
  refine aw_new (N := 3) (fs := [.null, .null, .null]) (rfl : aCl[5]? = _) in_X5 tyX5_ok q357 q358 q132 (by decide) hc9 hs9 dX2_init_16 (fun a11 g15 => ?_)
  have hv := hv a11 g15 g15
  refine aw_eqv (pc2 := 19) (st2 := [.ref a11, .ref x0]) rfl rfl rfl rfl ?_
  revert hv hc9 hs9; generalize aUp h10 a11 (.inr (5, [.null, .null, .null])) = h12; generalize c8 + 1 = c13; generalize s9 + 3 = s14; intro hc9 hs9 hv
  refine aw_dup dX2_init_19 rfl ?_
  refine aw_aload_n 0 (x := x0) dX2_init_20 rfl rfl ?_
  obtain ⟨fs, a16, he, hx, hv⟩ := hv
  refine aw_get (v := .ref a16) he rfl in_X2 0 (by decide) q387 (Or.inl rfl) hx dX2_init_21 ?_
  obtain ⟨d2, mc2, ms2, Q, hM, hd9, hc9, hs9, hv, hx⟩ := hv
  refine aw_callI (rest := [.ref a11, .ref x0]) rfl hM nX5_init rfl q359 q360 q132 q361 dX2_init_24 rfl hd9 (by decide) (Nat.le_of_ble_eq_true rfl) hc9 hs9 ?_ ?_
  rotate_left
  · exact fun E h2 q => aX_out (hx E h2 q) rfl hc9 hs9
  intro v9 h18 hq
  have hv := hv v9 h18 hq
  obtain ⟨rfl, hv⟩ := hv
  refine aw_eqv (pc2 := 27) (st2 := [.ref a11, .ref x0]) rfl rfl rfl rfl ?_
  revert hv hc9 hs9; generalize c13 + mc2 = c19; generalize s14 + ms2 = s20; intro hc9 hs9 hv
  obtain ⟨fs, he, hk9, hv⟩ := hv
  refine aw_putF he rfl in_X2 tyX2_ok nmX2 1 (by decide) q389 (Or.inl rfl) rfl rfl rfl rfl rfl hk9 rfl dX2_init_27 ?_
  revert hv; generalize aUp h18 x0 (.inr (2, fs.set 1 (.ref a11))) = h21; intro hv
  exact aw_vret rfl dX2_init_30 hv hc9 hs9
def V_X5_setThings_0 (l : Launch) (G : aG) (d mc ms : Nat) (P : aR → aH → Prop) (x0 : Nat) (x1 : Nat) (h : aH) : Prop :=
  vR h x1 5 1 fun a1 =>
  vR h x0 5 1 fun a2 =>
  1 ≤ d ∧ vCpyI .int h a1 (0 : Int32) a2 (0 : Int32) (25 : Int32) fun h3 =>
  P (.inl none) h3
set_option maxHeartbeats 4000000 in
theorem A_X5_setThings {l : Launch} {G : aG} {d mc ms : Nat} {P : aR → aH → Prop} {x0 : Nat} {x1 : Nat} {h : aH} (hl : l.stackTraces = false) (hv : V_X5_setThings_0 l G d mc ms P x0 x1 h) : aC l G mX5_setThings (wsN mX5_setThings) d mc ms [.ref x0, .ref x1] h P := by
  refine aC_ofF (M := mX5_setThings) rfl pX5_setThings (Nat.le_of_ble_eq_true rfl) hl ?_
  refine aw_eqv (lv2 := [(0, .ref x0), (1, .ref x1)]) rfl rfl rfl rfl ?_
  unfold V_X5_setThings_0 at hv
  refine aw_aload_n 1 (x := x1) dX5_setThings_0 rfl rfl ?_
  obtain ⟨fs, a1, he, hx, hv⟩ := hv
  refine aw_get (v := .ref a1) he rfl in_X5 1 (by decide) q377 (Or.inl rfl) hx dX5_setThings_1 ?_
  refine aw_iconst (v := 0) dX5_setThings_4 (by decide) ?_
  refine aw_aload_n 0 (x := x0) dX5_setThings_5 rfl rfl ?_
  obtain ⟨fs, a2, he, hx, hv⟩ := hv
  refine aw_get (v := .ref a2) he rfl in_X5 1 (by decide) q377 (Or.inl rfl) hx dX5_setThings_6 ?_
  refine aw_iconst (v := 0) dX5_setThings_9 (by decide) ?_
  refine aw_bipush (v := 25) dX5_setThings_10 (by decide) ?_
  obtain ⟨hd9, n0, n1, f9, g9, he0, he1, w1, w2, w3, w4, w5, hfit, hv⟩ := hv
  refine aw_copyI 0 rfl rfl q516 q222 q221 q126 he0 he1 w1 w2 w3 w4 w5 hfit hd9 (Nat.le_of_ble_eq_true rfl) rfl dX5_setThings_12 ?_
  revert hv; generalize aUp h a2 (aInts .int n1 (va_cpy f9 g9 ((0 : Int32)).toNatClampNeg ((0 : Int32)).toNatClampNeg ((25 : Int32)).toNatClampNeg)) = h3; intro hv
  exact aw_vret rfl dX5_setThings_15 hv (Nat.zero_le _) (Nat.zero_le _)
def V_X2_setAll_0 (l : Launch) (G : aG) (d mc ms : Nat) (P : aR → aH → Prop) (x0 : Nat) (x1 : Nat) (h : aH) : Prop :=
  vR h x0 2 0 fun a1 =>
  vR h x1 2 0 fun a2 =>
  vIs h a1 3 (
  vC l G mX3_setAll (wsN mX3_setAll) d mc ms [.ref a1, .ref a2] h 0 0 (xP P) (kV fun h4 c5 s6 => 
  vR h4 x0 2 1 fun a7 =>
  vR h4 x1 2 1 fun a8 =>
  vIs h4 a7 5 (
  vC l G mX5_setThings (wsN mX5_setThings) d mc ms [.ref a7, .ref a8] h4 c5 s6 (xP P) (kV fun h10 c11 s12 => 
  P (.inl none) h10))))
set_option maxHeartbeats 4000000 in
theorem A_X2_setAll {l : Launch} {G : aG} {d mc ms : Nat} {P : aR → aH → Prop} {x0 : Nat} {x1 : Nat} {h : aH} (hl : l.stackTraces = false) (hv : V_X2_setAll_0 l G d mc ms P x0 x1 h) : aC l G mX2_setAll (wsN mX2_setAll) d mc ms [.ref x0, .ref x1] h P := by
  refine aC_ofF (M := mX2_setAll) rfl pX2_setAll (Nat.le_of_ble_eq_true rfl) hl ?_
  refine aw_eqv (lv2 := [(0, .ref x0), (1, .ref x1)]) rfl rfl rfl rfl ?_
  unfold V_X2_setAll_0 at hv
  refine aw_aload_n 0 (x := x0) dX2_setAll_0 rfl rfl ?_
  obtain ⟨fs, a1, he, hx, hv⟩ := hv
  refine aw_get (v := .ref a1) he rfl in_X2 0 (by decide) q387 (Or.inl rfl) hx dX2_setAll_1 ?_
  refine aw_aload_n 1 (x := x1) dX2_setAll_4 rfl rfl ?_
  obtain ⟨fs, a2, he, hx, hv⟩ := hv
  refine aw_get (v := .ref a2) he rfl in_X2 0 (by decide) q387 (Or.inl rfl) hx dX2_setAll_5 ?_
  obtain ⟨⟨fs, he⟩, hv⟩ := hv
  obtain ⟨d2, mc2, ms2, Q, hM, hd9, hc9, hs9, hv, hx⟩ := hv
  refine aw_callV (rest := []) hM he rfl rfl nX3_setAll q507 q508 q509 q121 q510 dX2_setAll_8 rfl hd9 (by decide) (Nat.le_of_ble_eq_true rfl) hc9 hs9 ?_ ?_
  rotate_left
  · exact fun E h2 q => aX_out (hx E h2 q) rfl hc9 hs9
  intro v9 h4 hq
  have hv := hv v9 h4 hq
  obtain ⟨rfl, hv⟩ := hv
  refine aw_eqv (pc2 := 11) (st2 := []) rfl rfl rfl rfl ?_
  revert hv hc9 hs9; generalize 0 + mc2 = c5; generalize 0 + ms2 = s6; intro hc9 hs9 hv
  refine aw_aload_n 0 (x := x0) dX2_setAll_11 rfl rfl ?_
  obtain ⟨fs, a7, he, hx, hv⟩ := hv
  refine aw_get (v := .ref a7) he rfl in_X2 1 (by decide) q389 (Or.inl rfl) hx dX2_setAll_12 ?_
  refine aw_aload_n 1 (x := x1) dX2_setAll_15 rfl rfl ?_
  obtain ⟨fs, a8, he, hx, hv⟩ := hv
  refine aw_get (v := .ref a8) he rfl in_X2 1 (by decide) q389 (Or.inl rfl) hx dX2_setAll_16 ?_
  obtain ⟨⟨fs, he⟩, hv⟩ := hv
  obtain ⟨d2, mc2, ms2, Q, hM, hd9, hc9, hs9, hv, hx⟩ := hv
  refine aw_callV (rest := []) hM he rfl rfl nX5_setThings q512 q513 q514 q132 q515 dX2_setAll_19 rfl hd9 (by decide) (Nat.le_of_ble_eq_true rfl) hc9 hs9 ?_ ?_
  rotate_left
  · exact fun E h2 q => aX_out (hx E h2 q) rfl hc9 hs9
  intro v9 h10 hq
  have hv := hv v9 h10 hq
  obtain ⟨rfl, hv⟩ := hv
  refine aw_eqv (pc2 := 22) (st2 := []) rfl rfl rfl rfl ?_
  revert hv hc9 hs9; generalize c5 + mc2 = c11; generalize s6 + ms2 = s12; intro hc9 hs9 hv
  exact aw_vret rfl dX2_setAll_22 hv hc9 hs9
def V_X2_copy_0 (l : Launch) (G : aG) (d mc ms : Nat) (P : aR → aH → Prop) (x0 : Nat) (h : aH) : Prop :=
  vNew h 2 2 [.null, .null] mc ms 0 0 fun a1 h2 c3 s4 => h a1 = none →
  vC l G mX2_init (wsN mX2_init) d mc ms [.ref a1] h2 c3 s4 (xP P) (kV fun h7 c8 s9 => 
  vIs h7 a1 2 (
  vC l G mX2_setAll (wsN mX2_setAll) d mc ms [.ref a1, .ref x0] h7 c8 s9 (xP P) (kV fun h11 c12 s13 => 
  P (.inl (some (.ref a1))) h11)))
set_option maxHeartbeats 4000000 in
theorem A_X2_copy {l : Launch} {G : aG} {d mc ms : Nat} {P : aR → aH → Prop} {x0 : Nat} {h : aH} (hl : l.stackTraces = false) (hv : V_X2_copy_0 l G d mc ms P x0 h) : aC l G mX2_copy (wsN mX2_copy) d mc ms [.ref x0] h P := by
  refine aC_ofF (M := mX2_copy) rfl pX2_copy (Nat.le_of_ble_eq_true rfl) hl ?_
  refine aw_eqv (lv2 := [(0, .ref x0)]) rfl rfl rfl rfl ?_
  unfold V_X2_copy_0 at hv
  obtain ⟨hc9, hs9, hv⟩ := hv
  refine aw_new (N := 2) (fs := [.null, .null]) (rfl : aCl[2]? = _) in_X2 tyX2_ok q501 q162 q120 (by decide) hc9 hs9 dX2_copy_0 (fun a1 g5 => ?_)
  have hv := hv a1 g5 g5
  refine aw_eqv (pc2 := 3) (st2 := [.ref a1]) rfl rfl rfl rfl ?_
  revert hv hc9 hs9; generalize aUp h a1 (.inr (2, [.null, .null])) = h2; generalize 0 + 1 = c3; generalize 0 + 2 = s4; intro hc9 hs9 hv
  refine aw_dup dX2_copy_3 rfl ?_
  obtain ⟨d2, mc2, ms2, Q, hM, hd9, hc9, hs9, hv, hx⟩ := hv
  refine aw_callI (rest := [.ref a1]) rfl hM nX2_init rfl q502 q164 q120 q165 dX2_copy_4 rfl hd9 (by decide) (Nat.le_of_ble_eq_true rfl) hc9 hs9 ?_ ?_
  rotate_left
  · exact fun E h2 q => aX_out (hx E h2 q) rfl hc9 hs9
  intro v9 h7 hq
  have hv := hv v9 h7 hq
  obtain ⟨rfl, hv⟩ := hv
  refine aw_eqv (pc2 := 7) (st2 := [.ref a1]) rfl rfl rfl rfl ?_
  revert hv hc9 hs9; generalize c3 + mc2 = c8; generalize s4 + ms2 = s9; intro hc9 hs9 hv
  refine aw_astore_n (lv' := [(1, .ref a1), (0, .ref x0)]) dX2_copy_7 rfl (Nat.le_of_ble_eq_true rfl) rfl ?_
  refine aw_aload_n 0 (x := a1) dX2_copy_8 rfl rfl ?_
  refine aw_aload_n 1 (x := x0) dX2_copy_9 rfl rfl ?_
  obtain ⟨⟨fs, he⟩, hv⟩ := hv
  obtain ⟨d2, mc2, ms2, Q, hM, hd9, hc9, hs9, hv, hx⟩ := hv
  refine aw_callV (rest := []) hM he rfl rfl nX2_setAll q503 q504 q505 q120 q506 dX2_copy_10 rfl hd9 (by decide) (Nat.le_of_ble_eq_true rfl) hc9 hs9 ?_ ?_
  rotate_left
  · exact fun E h2 q => aX_out (hx E h2 q) rfl hc9 hs9
  intro v9 h11 hq
  have hv := hv v9 h11 hq
  obtain ⟨rfl, hv⟩ := hv
  refine aw_eqv (pc2 := 13) (st2 := []) rfl rfl rfl rfl ?_
  revert hv hc9 hs9; generalize c8 + mc2 = c12; generalize s9 + ms2 = s13; intro hc9 hs9 hv
  refine aw_aload_n 0 (x := a1) dX2_copy_13 rfl rfl ?_
  exact aw_aret rfl (Or.inl ⟨_, rfl⟩) (Or.inr ⟨_, rfl⟩) dX2_copy_14 hv hc9 hs9
def V_X5_isSettled_0 (l : Launch) (G : aG) (d mc ms : Nat) (P : aR → aH → Prop) (x0 : Nat) (x1 : Int32) (h : aH) : Prop :=
  vR h x0 5 1 fun a1 =>
  vA .int h a1 x1 fun y2 =>
  vC l G mX1_isSingle (wsN mX1_isSingle) d mc ms [.int y2] h 0 0 (xP P) (kI fun y3 h4 c5 s6 => 
  vB y3 ∧ P (.inl (some (.int y3))) h4)
set_option maxHeartbeats 4000000 in
theorem A_X5_isSettled {l : Launch} {G : aG} {d mc ms : Nat} {P : aR → aH → Prop} {x0 : Nat} {x1 : Int32} {h : aH} (hl : l.stackTraces = false) (hv : V_X5_isSettled_0 l G d mc ms P x0 x1 h) : aC l G mX5_isSettled (wsN mX5_isSettled) d mc ms [.ref x0, .int x1] h P := by
  refine aC_ofF (M := mX5_isSettled) rfl pX5_isSettled (Nat.le_of_ble_eq_true rfl) hl ?_
  refine aw_eqv (lv2 := [(0, .ref x0), (1, .int x1)]) rfl rfl rfl rfl ?_
  unfold V_X5_isSettled_0 at hv
  refine aw_aload_n 0 (x := x0) dX5_isSettled_0 rfl rfl ?_
  obtain ⟨fs, a1, he, hx, hv⟩ := hv
  refine aw_get (v := .ref a1) he rfl in_X5 1 (by decide) q377 (Or.inl rfl) hx dX5_isSettled_1 ?_
  refine aw_iload_n 1 dX5_isSettled_4 rfl rfl ?_
  obtain ⟨n9, f9, he, hin, hv⟩ := hv
  refine aw_iald he hin dX5_isSettled_5 ?_
  revert hv; generalize f9 (x1).toNatClampNeg = y2; intro hv
  obtain ⟨d2, mc2, ms2, Q, hM, hd9, hc9, hs9, hv, hx⟩ := hv
  refine aw_callSN (rest := []) hM nX1_isSingle q613 q540 q119 q541 dX5_isSettled_6 rfl hd9 (by decide) (Nat.le_of_ble_eq_true rfl) hc9 hs9 ?_ ?_
  rotate_left
  · exact fun E h2 q => aX_out (hx E h2 q) rfl hc9 hs9
  intro v9 h4 hq
  have hv := hv v9 h4 hq
  obtain ⟨y3, rfl, hv⟩ := hv
  refine aw_eqv (pc2 := 9) (st2 := [.int y3]) rfl rfl rfl rfl ?_
  revert hv hc9 hs9; generalize 0 + mc2 = c5; generalize 0 + ms2 = s6; intro hc9 hs9 hv
  obtain ⟨z7, hv⟩ := hv
  exact aw_zret rfl z7.nar dX5_isSettled_9 hv hc9 hs9
def T_X5_canHave_13 (l : Launch) (G : aG) (d mc ms : Nat) (P : aR → aH → Prop) (x0 : Nat) (x1 : Int32) (x2 : Nat) (x3 : Nat) (x4 : Int32) (h : aH) (c s : Nat) : Prop := c ≤ mc → s ≤ ms → AW l G mX5_canHave d mc ms P 13 [(0, .ref x0), (1, .int x1), (2, .ref x2), (3, .ref x3), (4, .int x4)] [] h c s
def V_X5_canHave_13 (l : Launch) (G : aG) (d mc ms : Nat) (P : aR → aH → Prop) (x0 : Nat) (x1 : Int32) (x2 : Nat) (x3 : Nat) (x4 : Int32) (h : aH) (c s : Nat) : Prop :=
  vR h x0 5 0 fun a1 =>
  vI h a1 3 4 fun y2 =>
  (y2 ≤ x4 → 
    vR h x0 5 0 fun a4 =>
    vIs h a4 3 (
    vC l G mX3_isTrue (wsN mX3_isTrue) d mc ms [.ref a4, .int x1, .ref x2] h c s (xP P) (kI fun y5 h6 c7 s8 => 
    vB y5 ∧ P (.inl (some (.int y5))) h6))
    ) ∧ (¬ y2 ≤ x4 → 
    vR h x0 5 1 fun a10 =>
    vA .int h x3 x4 fun y11 =>
    vA .int h a10 y11 fun y12 =>
    vA .int h x2 x4 fun y13 =>
    vC l G mX1_has (wsN mX1_has) d mc ms [.int y12, .int y13] h c s (xP P) (kI fun y14 h15 c16 s17 => 
    (¬ y14 = 0 → 
      T_X5_canHave_13 l G d mc ms P x0 x1 x2 x3 (x4 + 1) h15 c16 s17
      ) ∧ (y14 = 0 → 
      P (.inl (some (.int 0))) h15
      ))
    )
set_option maxHeartbeats 4000000 in
theorem A_X5_canHave_13 {l : Launch} {G : aG} {d mc ms : Nat} {P : aR → aH → Prop} {x0 : Nat} {x1 : Int32} {x2 : Nat} {x3 : Nat} {x4 : Int32} {h : aH} {c s : Nat} (hl : l.stackTraces = false) (hv : V_X5_canHave_13 l G d mc ms P x0 x1 x2 x3 x4 h c s) : T_X5_canHave_13 l G d mc ms P x0 x1 x2 x3 x4 h c s := by
  intro hc hs
  unfold V_X5_canHave_13 at hv
  refine aw_iload 4 dX5_canHave_13 rfl ?_
  refine aw_aload_n 0 (x := x0) dX5_canHave_15 rfl rfl ?_
  obtain ⟨fs, a1, he, hx, hv⟩ := hv
  refine aw_get (v := .ref a1) he rfl in_X5 0 (by decide) q376 (Or.inl rfl) hx dX5_canHave_16 ?_
  obtain ⟨fs, y2, he, hx, hv⟩ := hv
  refine aw_getN (v := .int y2) he rfl in_X3 4 (by decide) q331 (Or.inl rfl) hx dX5_canHave_19 ?_
  refine aw_icmp_ge 52 dX5_canHave_22 (by decide) (fun c3 => ?_) (fun c3 => ?_)
  · have hv := hv.1 c3
    refine aw_aload_n 0 (x := x0) dX5_canHave_52 rfl rfl ?_
    obtain ⟨fs, a4, he, hx, hv⟩ := hv
    refine aw_get (v := .ref a4) he rfl in_X5 0 (by decide) q376 (Or.inl rfl) hx dX5_canHave_53 ?_
    refine aw_iload_n 1 dX5_canHave_56 rfl rfl ?_
    refine aw_aload_n 2 (x := x2) dX5_canHave_57 rfl rfl ?_
    obtain ⟨⟨fs, he⟩, hv⟩ := hv
    obtain ⟨d2, mc2, ms2, Q, hM, hd9, hc9, hs9, hv, hx⟩ := hv
    refine aw_callV (rest := []) hM he rfl rfl nX3_isTrue q656 q657 q658 q121 q659 dX5_canHave_58 rfl hd9 (by decide) (Nat.le_of_ble_eq_true rfl) hc9 hs9 ?_ ?_
    rotate_left
    · exact fun E h2 q => aX_out (hx E h2 q) rfl hc9 hs9
    intro v9 h6 hq
    have hv := hv v9 h6 hq
    obtain ⟨y5, rfl, hv⟩ := hv
    refine aw_eqv (pc2 := 61) (st2 := [.int y5]) rfl rfl rfl rfl ?_
    revert hv hc9 hs9; generalize c + mc2 = c7; generalize s + ms2 = s8; intro hc9 hs9 hv
    obtain ⟨z9, hv⟩ := hv
    exact aw_zret rfl z9.nar dX5_canHave_61 hv hc9 hs9
  · have hv := hv.2 c3
    refine aw_aload_n 0 (x := x0) dX5_canHave_25 rfl rfl ?_
    obtain ⟨fs, a10, he, hx, hv⟩ := hv
    refine aw_get (v := .ref a10) he rfl in_X5 1 (by decide) q377 (Or.inl rfl) hx dX5_canHave_26 ?_
    refine aw_aload_n 3 (x := x3) dX5_canHave_29 rfl rfl ?_
    refine aw_iload 4 dX5_canHave_30 rfl ?_
    obtain ⟨n9, f9, he, hin, hv⟩ := hv
    refine aw_iald he hin dX5_canHave_32 ?_
    revert hv; generalize f9 (x4).toNatClampNeg = y11; intro hv
    obtain ⟨n9, f9, he, hin, hv⟩ := hv
    refine aw_iald he hin dX5_canHave_33 ?_
    revert hv; generalize f9 (y11).toNatClampNeg = y12; intro hv
    refine aw_aload_n 2 (x := x2) dX5_canHave_34 rfl rfl ?_
    refine aw_iload 4 dX5_canHave_35 rfl ?_
    obtain ⟨n9, f9, he, hin, hv⟩ := hv
    refine aw_iald he hin dX5_canHave_37 ?_
    revert hv; generalize f9 (x4).toNatClampNeg = y13; intro hv
    obtain ⟨d2, mc2, ms2, Q, hM, hd9, hc9, hs9, hv, hx⟩ := hv
    refine aw_callSN (rest := []) hM nX1_has q655 q298 q119 q299 dX5_canHave_38 rfl hd9 (by decide) (Nat.le_of_ble_eq_true rfl) hc9 hs9 ?_ ?_
    rotate_left
    · exact fun E h2 q => aX_out (hx E h2 q) rfl hc9 hs9
    intro v9 h15 hq
    have hv := hv v9 h15 hq
    obtain ⟨y14, rfl, hv⟩ := hv
    refine aw_eqv (pc2 := 41) (st2 := [.int y14]) rfl rfl rfl rfl ?_
    revert hv hc9 hs9; generalize c + mc2 = c16; generalize s + ms2 = s17; intro hc9 hs9 hv
    refine aw_if_ne 46 dX5_canHave_41 (by decide) (fun c18 => ?_) (fun c18 => ?_)
    · have hv := hv.1 c18
      refine aw_iinc 4 (v := x4 + 1) (lv' := [(4, .int (x4 + 1)), (0, .ref x0), (1, .int x1), (2, .ref x2), (3, .ref x3)]) dX5_canHave_46 rfl rfl (Nat.le_of_ble_eq_true rfl) rfl ?_
      refine aw_goto 13 dX5_canHave_49 (by decide) ?_
      refine aw_sub [1, 2, 3, 4, 0] rfl ?_
      exact hv hc9 hs9
    · have hv := hv.2 c18
      refine aw_iconst (v := 0) dX5_canHave_44 (by decide) ?_
      exact aw_zret rfl rfl dX5_canHave_45 hv hc9 hs9
def V_X5_canHave_0 (l : Launch) (G : aG) (d mc ms : Nat) (P : aR → aH → Prop) (x0 : Nat) (x1 : Int32) (x2 : Nat) (h : aH) : Prop :=
  vR h x0 5 0 fun a19 =>
  vR h a19 3 1 fun a20 =>
  vAR (.array .int) h a20 x1 fun a21 =>
  T_X5_canHave_13 l G d mc ms P x0 x1 x2 a21 0 h 0 0
set_option maxHeartbeats 4000000 in
theorem A_X5_canHave {l : Launch} {G : aG} {d mc ms : Nat} {P : aR → aH → Prop} {x0 : Nat} {x1 : Int32} {x2 : Nat} {h : aH} (hl : l.stackTraces = false) (hv : V_X5_canHave_0 l G d mc ms P x0 x1 x2 h) : aC l G mX5_canHave (wsN mX5_canHave) d mc ms [.ref x0, .int x1, .ref x2] h P := by
  refine aC_ofF (M := mX5_canHave) rfl pX5_canHave (Nat.le_of_ble_eq_true rfl) hl ?_
  refine aw_eqv (lv2 := [(0, .ref x0), (1, .int x1), (2, .ref x2)]) rfl rfl rfl rfl ?_
  unfold V_X5_canHave_0 at hv
  refine aw_aload_n 0 (x := x0) dX5_canHave_0 rfl rfl ?_
  obtain ⟨fs, a19, he, hx, hv⟩ := hv
  refine aw_get (v := .ref a19) he rfl in_X5 0 (by decide) q376 (Or.inl rfl) hx dX5_canHave_1 ?_
  obtain ⟨fs, a20, he, hx, hv⟩ := hv
  refine aw_getN (v := .ref a20) he rfl in_X3 1 (by decide) q324 (Or.inl rfl) hx dX5_canHave_4 ?_
  refine aw_iload_n 1 dX5_canHave_7 rfl rfl ?_
  obtain ⟨n9, f9, a21, he, hin, hx, hv⟩ := hv
  refine aw_aald 7 rfl rfl he hin dX5_canHave_8 ?_
  rw [hx]
  refine aw_eqv (st2 := [.ref a21]) rfl rfl rfl rfl ?_
  refine aw_astore_n (lv' := [(3, .ref a21), (0, .ref x0), (1, .int x1), (2, .ref x2)]) dX5_canHave_9 rfl (Nat.le_of_ble_eq_true rfl) rfl ?_
  refine aw_iconst (v := 0) dX5_canHave_10 (by decide) ?_
  refine aw_istore (lv' := [(4, .int 0), (3, .ref a21), (0, .ref x0), (1, .int x1), (2, .ref x2)]) dX5_canHave_11 (Nat.le_of_ble_eq_true rfl) rfl ?_
  refine aw_sub [2, 3, 4, 1, 0] rfl ?_
  exact hv (Nat.zero_le _) (Nat.zero_le _)
def T_X5_isLineBroken_2 (l : Launch) (G : aG) (d mc ms : Nat) (P : aR → aH → Prop) (x0 : Nat) (x1 : Int32) (x2 : Int32) (h : aH) (c s : Nat) : Prop := c ≤ mc → s ≤ ms → AW l G mX5_isLineBroken d mc ms P 2 [(0, .ref x0), (1, .int x1), (2, .int x2)] [] h c s
def V_X5_isLineBroken_2 (l : Launch) (G : aG) (d mc ms : Nat) (P : aR → aH → Prop) (x0 : Nat) (x1 : Int32) (x2 : Int32) (h : aH) (c s : Nat) : Prop :=
  vR h x0 5 0 fun a1 =>
  vO h a1 3 3 fun o2 =>
  vSome o2 fun q3 =>
  vIs h q3 4 (
  vC l G mX4_count (wsN mX4_count) d mc ms [.ref q3] h c s (xP P) (kI fun y4 h5 c6 s7 => 
  (y4 ≤ x2 → 
    P (.inl (some (.int 1))) h5
    ) ∧ (¬ y4 ≤ x2 → 
    vR h5 x0 5 0 fun a9 =>
    vO h5 a9 3 3 fun o10 =>
    vSome o10 fun q11 =>
    vIs h5 q11 4 (
    vC l G mX4_at (wsN mX4_at) d mc ms [.ref q11, .int x2] h5 c6 s7 (xP P) (kR fun a12 h13 c14 s15 => 
    vIs h13 x0 5 (
    vC l G mX5_canHave (wsN mX5_canHave) d mc ms [.ref x0, .int x1, .ref a12] h13 c14 s15 (xP P) (kI fun y16 h17 c18 s19 => 
    (y16 = 0 → 
      T_X5_isLineBroken_2 l G d mc ms P x0 x1 (x2 + 1) h17 c18 s19
      ) ∧ (¬ y16 = 0 → 
      P (.inl (some (.int 0))) h17
      )))))
    )))
set_option maxHeartbeats 4000000 in
theorem A_X5_isLineBroken_2 {l : Launch} {G : aG} {d mc ms : Nat} {P : aR → aH → Prop} {x0 : Nat} {x1 : Int32} {x2 : Int32} {h : aH} {c s : Nat} (hl : l.stackTraces = false) (hv : V_X5_isLineBroken_2 l G d mc ms P x0 x1 x2 h c s) : T_X5_isLineBroken_2 l G d mc ms P x0 x1 x2 h c s := by
  intro hc hs
  unfold V_X5_isLineBroken_2 at hv
  refine aw_iload_n 2 dX5_isLineBroken_2 rfl rfl ?_
  refine aw_aload_n 0 (x := x0) dX5_isLineBroken_3 rfl rfl ?_
  obtain ⟨fs, a1, he, hx, hv⟩ := hv
  refine aw_get (v := .ref a1) he rfl in_X5 0 (by decide) q376 (Or.inl rfl) hx dX5_isLineBroken_4 ?_
  obtain ⟨fs, o2, he, hx, hv⟩ := hv
  refine aw_getN (v := va_rf o2) he rfl in_X3 3 (by decide) q329 (Or.inl rfl) hx dX5_isLineBroken_7 ?_
  obtain ⟨q3, hq9, hv⟩ := hv
  subst hq9
  refine aw_eqv (lv2 := [(0, .ref x0), (1, .int x1), (2, .int x2)]) (st2 := [.ref q3, .int x2]) rfl rfl rfl rfl ?_
  obtain ⟨⟨fs, he⟩, hv⟩ := hv
  obtain ⟨d2, mc2, ms2, Q, hM, hd9, hc9, hs9, hv, hx⟩ := hv
  refine aw_callV (rest := [.int x2]) hM he rfl rfl nX4_count q627 q628 q629 q122 q630 dX5_isLineBroken_10 rfl hd9 (by decide) (Nat.le_of_ble_eq_true rfl) hc9 hs9 ?_ ?_
  rotate_left
  · exact fun E h2 q => aX_out (hx E h2 q) rfl hc9 hs9
  intro v9 h5 hq
  have hv := hv v9 h5 hq
  obtain ⟨y4, rfl, hv⟩ := hv
  refine aw_eqv (pc2 := 13) (st2 := [.int y4, .int x2]) rfl rfl rfl rfl ?_
  revert hv hc9 hs9; generalize c + mc2 = c6; generalize s + ms2 = s7; intro hc9 hs9 hv
  refine aw_icmp_ge 43 dX5_isLineBroken_13 (by decide) (fun c8 => ?_) (fun c8 => ?_)
  · have hv := hv.1 c8
    refine aw_iconst (v := 1) dX5_isLineBroken_43 (by decide) ?_
    exact aw_zret rfl rfl dX5_isLineBroken_44 hv hc9 hs9
  · have hv := hv.2 c8
    refine aw_aload_n 0 (x := x0) dX5_isLineBroken_16 rfl rfl ?_
    refine aw_iload_n 1 dX5_isLineBroken_17 rfl rfl ?_
    refine aw_aload_n 0 (x := x0) dX5_isLineBroken_18 rfl rfl ?_
    obtain ⟨fs, a9, he, hx, hv⟩ := hv
    refine aw_get (v := .ref a9) he rfl in_X5 0 (by decide) q376 (Or.inl rfl) hx dX5_isLineBroken_19 ?_
    obtain ⟨fs, o10, he, hx, hv⟩ := hv
    refine aw_getN (v := va_rf o10) he rfl in_X3 3 (by decide) q329 (Or.inl rfl) hx dX5_isLineBroken_22 ?_
    refine aw_iload_n 2 dX5_isLineBroken_25 rfl rfl ?_
    obtain ⟨q11, hq9, hv⟩ := hv
    subst hq9
    refine aw_eqv (lv2 := [(0, .ref x0), (1, .int x1), (2, .int x2)]) (st2 := [.int x2, .ref q11, .int x1, .ref x0]) rfl rfl rfl rfl ?_
    obtain ⟨⟨fs, he⟩, hv⟩ := hv
    obtain ⟨d2, mc2, ms2, Q, hM, hd9, hc9, hs9, hv, hx⟩ := hv
    refine aw_callV (rest := [.int x1, .ref x0]) hM he rfl rfl nX4_at q633 q634 q635 q122 q636 dX5_isLineBroken_26 rfl hd9 (by decide) (Nat.le_of_ble_eq_true rfl) hc9 hs9 ?_ ?_
    rotate_left
    · exact fun E h2 q => aX_out (hx E h2 q) rfl hc9 hs9
    intro v9 h13 hq
    have hv := hv v9 h13 hq
    obtain ⟨a12, rfl, hv⟩ := hv
    refine aw_eqv (pc2 := 29) (st2 := [.ref a12, .int x1, .ref x0]) rfl rfl rfl rfl ?_
    revert hv hc9 hs9; generalize c6 + mc2 = c14; generalize s7 + ms2 = s15; intro hc9 hs9 hv
    obtain ⟨⟨fs, he⟩, hv⟩ := hv
    obtain ⟨d2, mc2, ms2, Q, hM, hd9, hc9, hs9, hv, hx⟩ := hv
    refine aw_callV (rest := []) hM he rfl rfl nX5_canHave q651 q653 qs10 q132 q654 dX5_isLineBroken_29 rfl hd9 (by decide) (Nat.le_of_ble_eq_true rfl) hc9 hs9 ?_ ?_
    rotate_left
    · exact fun E h2 q => aX_out (hx E h2 q) rfl hc9 hs9
    intro v9 h17 hq
    have hv := hv v9 h17 hq
    obtain ⟨y16, rfl, hv⟩ := hv
    refine aw_eqv (pc2 := 32) (st2 := [.int y16]) rfl rfl rfl rfl ?_
    revert hv hc9 hs9; generalize c14 + mc2 = c18; generalize s15 + ms2 = s19; intro hc9 hs9 hv
    refine aw_if_eq 37 dX5_isLineBroken_32 (by decide) (fun c20 => ?_) (fun c20 => ?_)
    · have hv := hv.1 c20
      refine aw_iinc 2 (v := x2 + 1) (lv' := [(2, .int (x2 + 1)), (0, .ref x0), (1, .int x1)]) dX5_isLineBroken_37 rfl rfl (Nat.le_of_ble_eq_true rfl) rfl ?_
      refine aw_goto 2 dX5_isLineBroken_40 (by decide) ?_
      refine aw_sub [1, 2, 0] rfl ?_
      exact hv hc9 hs9
    · have hv := hv.2 c20
      refine aw_iconst (v := 0) dX5_isLineBroken_35 (by decide) ?_
      exact aw_zret rfl rfl dX5_isLineBroken_36 hv hc9 hs9
def V_X5_isLineBroken_0 (l : Launch) (G : aG) (d mc ms : Nat) (P : aR → aH → Prop) (x0 : Nat) (x1 : Int32) (h : aH) : Prop :=
  T_X5_isLineBroken_2 l G d mc ms P x0 x1 0 h 0 0
set_option maxHeartbeats 4000000 in
theorem A_X5_isLineBroken {l : Launch} {G : aG} {d mc ms : Nat} {P : aR → aH → Prop} {x0 : Nat} {x1 : Int32} {h : aH} (hl : l.stackTraces = false) (hv : V_X5_isLineBroken_0 l G d mc ms P x0 x1 h) : aC l G mX5_isLineBroken (wsN mX5_isLineBroken) d mc ms [.ref x0, .int x1] h P := by
  refine aC_ofF (M := mX5_isLineBroken) rfl pX5_isLineBroken (Nat.le_of_ble_eq_true rfl) hl ?_
  refine aw_eqv (lv2 := [(0, .ref x0), (1, .int x1)]) rfl rfl rfl rfl ?_
  unfold V_X5_isLineBroken_0 at hv
  refine aw_iconst (v := 0) dX5_isLineBroken_0 (by decide) ?_
  refine aw_istore_n (lv' := [(2, .int 0), (0, .ref x0), (1, .int x1)]) dX5_isLineBroken_1 rfl (Nat.le_of_ble_eq_true rfl) rfl ?_
  refine aw_sub [1, 2, 0] rfl ?_
  exact hv (Nat.zero_le _) (Nat.zero_le _)
def T_X5_isBroken_2 (l : Launch) (G : aG) (d mc ms : Nat) (P : aR → aH → Prop) (x0 : Nat) (x1 : Int32) (h : aH) (c s : Nat) : Prop := c ≤ mc → s ≤ ms → AW l G mX5_isBroken d mc ms P 2 [(0, .ref x0), (1, .int x1)] [] h c s
def V_X5_isBroken_2 (l : Launch) (G : aG) (d mc ms : Nat) (P : aR → aH → Prop) (x0 : Nat) (x1 : Int32) (h : aH) (c s : Nat) : Prop :=
  vR h x0 5 0 fun a1 =>
  vIs h a1 3 (
  vC l G mX3_lineCount (wsN mX3_lineCount) d mc ms [.ref a1] h c s (xP P) (kI fun y2 h3 c4 s5 => 
  (y2 ≤ x1 → 
    P (.inl (some (.int 0))) h3
    ) ∧ (¬ y2 ≤ x1 → 
    vIs h3 x0 5 (
    vC l G mX5_isLineBroken (wsN mX5_isLineBroken) d mc ms [.ref x0, .int x1] h3 c4 s5 (xP P) (kI fun y7 h8 c9 s10 => 
    (y7 = 0 → 
      T_X5_isBroken_2 l G d mc ms P x0 (x1 + 1) h8 c9 s10
      ) ∧ (¬ y7 = 0 → 
      P (.inl (some (.int 1))) h8
      )))
    )))
set_option maxHeartbeats 4000000 in
theorem A_X5_isBroken_2 {l : Launch} {G : aG} {d mc ms : Nat} {P : aR → aH → Prop} {x0 : Nat} {x1 : Int32} {h : aH} {c s : Nat} (hl : l.stackTraces = false) (hv : V_X5_isBroken_2 l G d mc ms P x0 x1 h c s) : T_X5_isBroken_2 l G d mc ms P x0 x1 h c s := by
  intro hc hs
  unfold V_X5_isBroken_2 at hv
  refine aw_iload_n 1 dX5_isBroken_2 rfl rfl ?_
  refine aw_aload_n 0 (x := x0) dX5_isBroken_3 rfl rfl ?_
  obtain ⟨fs, a1, he, hx, hv⟩ := hv
  refine aw_get (v := .ref a1) he rfl in_X5 0 (by decide) q376 (Or.inl rfl) hx dX5_isBroken_4 ?_
  obtain ⟨⟨fs, he⟩, hv⟩ := hv
  obtain ⟨d2, mc2, ms2, Q, hM, hd9, hc9, hs9, hv, hx⟩ := hv
  refine aw_callV (rest := [.int x1]) hM he rfl rfl nX3_lineCount q622 q314 q315 q121 q316 dX5_isBroken_7 rfl hd9 (by decide) (Nat.le_of_ble_eq_true rfl) hc9 hs9 ?_ ?_
  rotate_left
  · exact fun E h2 q => aX_out (hx E h2 q) rfl hc9 hs9
  intro v9 h3 hq
  have hv := hv v9 h3 hq
  obtain ⟨y2, rfl, hv⟩ := hv
  refine aw_eqv (pc2 := 10) (st2 := [.int y2, .int x1]) rfl rfl rfl rfl ?_
  revert hv hc9 hs9; generalize c + mc2 = c4; generalize s + ms2 = s5; intro hc9 hs9 hv
  refine aw_icmp_ge 29 dX5_isBroken_10 (by decide) (fun c6 => ?_) (fun c6 => ?_)
  · have hv := hv.1 c6
    refine aw_iconst (v := 0) dX5_isBroken_29 (by decide) ?_
    exact aw_zret rfl rfl dX5_isBroken_30 hv hc9 hs9
  · have hv := hv.2 c6
    refine aw_aload_n 0 (x := x0) dX5_isBroken_13 rfl rfl ?_
    refine aw_iload_n 1 dX5_isBroken_14 rfl rfl ?_
    obtain ⟨⟨fs, he⟩, hv⟩ := hv
    obtain ⟨d2, mc2, ms2, Q, hM, hd9, hc9, hs9, hv, hx⟩ := hv
    refine aw_callV (rest := []) hM he rfl rfl nX5_isLineBroken q623 q624 q625 q132 q626 dX5_isBroken_15 rfl hd9 (by decide) (Nat.le_of_ble_eq_true rfl) hc9 hs9 ?_ ?_
    rotate_left
    · exact fun E h2 q => aX_out (hx E h2 q) rfl hc9 hs9
    intro v9 h8 hq
    have hv := hv v9 h8 hq
    obtain ⟨y7, rfl, hv⟩ := hv
    refine aw_eqv (pc2 := 18) (st2 := [.int y7]) rfl rfl rfl rfl ?_
    revert hv hc9 hs9; generalize c4 + mc2 = c9; generalize s5 + ms2 = s10; intro hc9 hs9 hv
    refine aw_if_eq 23 dX5_isBroken_18 (by decide) (fun c11 => ?_) (fun c11 => ?_)
    · have hv := hv.1 c11
      refine aw_iinc 1 (v := x1 + 1) (lv' := [(1, .int (x1 + 1)), (0, .ref x0)]) dX5_isBroken_23 rfl rfl (Nat.le_of_ble_eq_true rfl) rfl ?_
      refine aw_goto 2 dX5_isBroken_26 (by decide) ?_
      refine aw_sub [1, 0] rfl ?_
      exact hv hc9 hs9
    · have hv := hv.2 c11
      refine aw_iconst (v := 1) dX5_isBroken_21 (by decide) ?_
      exact aw_zret rfl rfl dX5_isBroken_22 hv hc9 hs9
def V_X5_isBroken_0 (l : Launch) (G : aG) (d mc ms : Nat) (P : aR → aH → Prop) (x0 : Nat) (h : aH) : Prop :=
  T_X5_isBroken_2 l G d mc ms P x0 0 h 0 0
set_option maxHeartbeats 4000000 in
theorem A_X5_isBroken {l : Launch} {G : aG} {d mc ms : Nat} {P : aR → aH → Prop} {x0 : Nat} {h : aH} (hl : l.stackTraces = false) (hv : V_X5_isBroken_0 l G d mc ms P x0 h) : aC l G mX5_isBroken (wsN mX5_isBroken) d mc ms [.ref x0] h P := by
  refine aC_ofF (M := mX5_isBroken) rfl pX5_isBroken (Nat.le_of_ble_eq_true rfl) hl ?_
  refine aw_eqv (lv2 := [(0, .ref x0)]) rfl rfl rfl rfl ?_
  unfold V_X5_isBroken_0 at hv
  refine aw_iconst (v := 0) dX5_isBroken_0 (by decide) ?_
  refine aw_istore_n (lv' := [(1, .int 0), (0, .ref x0)]) dX5_isBroken_1 rfl (Nat.le_of_ble_eq_true rfl) rfl ?_
  refine aw_sub [1, 0] rfl ?_
  exact hv (Nat.zero_le _) (Nat.zero_le _)
def T_X5_isSolved_4 (l : Launch) (G : aG) (d mc ms : Nat) (P : aR → aH → Prop) (x0 : Nat) (x1 : Int32) (x2 : Int32) (h : aH) (c s : Nat) : Prop := c ≤ mc → s ≤ ms → AW l G mX5_isSolved d mc ms P 4 [(0, .ref x0), (1, .int x1), (2, .int x2)] [] h c s
def V_X5_isSolved_4 (l : Launch) (G : aG) (d mc ms : Nat) (P : aR → aH → Prop) (x0 : Nat) (x1 : Int32) (x2 : Int32) (h : aH) (c s : Nat) : Prop :=
  vR h x0 5 0 fun a1 =>
  vIs h a1 3 (
  vC l G mX3_cellCount (wsN mX3_cellCount) d mc ms [.ref a1] h c s (xP P) (kI fun y2 h3 c4 s5 => 
  (y2 ≤ x2 → 
    (x1 = 0 → 
      P (.inl (some (.int 0))) h3
      ) ∧ (¬ x1 = 0 → 
      vIs h3 x0 5 (
      vC l G mX5_isBroken (wsN mX5_isBroken) d mc ms [.ref x0] h3 c4 s5 (xP P) (kI fun y8 h9 c10 s11 => 
      vB (if y8 = 0 then (1 : Int32) else 0) ∧ P (.inl (some (.int (if y8 = 0 then (1 : Int32) else 0)))) h9))
      )
    ) ∧ (¬ y2 ≤ x2 → 
    vIs h3 x0 5 (
    vC l G mX5_isSettled (wsN mX5_isSettled) d mc ms [.ref x0, .int x2] h3 c4 s5 (xP P) (kI fun y14 h15 c16 s17 => 
    T_X5_isSolved_4 l G d mc ms P x0 (x1 &&& y14) (x2 + 1) h15 c16 s17))
    )))
set_option maxHeartbeats 4000000 in
theorem A_X5_isSolved_4 {l : Launch} {G : aG} {d mc ms : Nat} {P : aR → aH → Prop} {x0 : Nat} {x1 : Int32} {x2 : Int32} {h : aH} {c s : Nat} (hl : l.stackTraces = false) (hv : V_X5_isSolved_4 l G d mc ms P x0 x1 x2 h c s) : T_X5_isSolved_4 l G d mc ms P x0 x1 x2 h c s := by
  intro hc hs
  unfold V_X5_isSolved_4 at hv
  refine aw_iload_n 2 dX5_isSolved_4 rfl rfl ?_
  refine aw_aload_n 0 (x := x0) dX5_isSolved_5 rfl rfl ?_
  obtain ⟨fs, a1, he, hx, hv⟩ := hv
  refine aw_get (v := .ref a1) he rfl in_X5 0 (by decide) q376 (Or.inl rfl) hx dX5_isSolved_6 ?_
  obtain ⟨⟨fs, he⟩, hv⟩ := hv
  obtain ⟨d2, mc2, ms2, Q, hM, hd9, hc9, hs9, hv, hx⟩ := hv
  refine aw_callV (rest := [.int x2]) hM he rfl rfl nX3_cellCount q368 q369 q370 q121 q371 dX5_isSolved_9 rfl hd9 (by decide) (Nat.le_of_ble_eq_true rfl) hc9 hs9 ?_ ?_
  rotate_left
  · exact fun E h2 q => aX_out (hx E h2 q) rfl hc9 hs9
  intro v9 h3 hq
  have hv := hv v9 h3 hq
  obtain ⟨y2, rfl, hv⟩ := hv
  refine aw_eqv (pc2 := 12) (st2 := [.int y2, .int x2]) rfl rfl rfl rfl ?_
  revert hv hc9 hs9; generalize c + mc2 = c4; generalize s + ms2 = s5; intro hc9 hs9 hv
  refine aw_icmp_ge 29 dX5_isSolved_12 (by decide) (fun c6 => ?_) (fun c6 => ?_)
  · have hv := hv.1 c6
    refine aw_iload_n 1 dX5_isSolved_29 rfl rfl ?_
    refine aw_if_eq 44 dX5_isSolved_30 (by decide) (fun c7 => ?_) (fun c7 => ?_)
    · have hv := hv.1 c7
      refine aw_iconst (v := 0) dX5_isSolved_44 (by decide) ?_
      exact aw_zret rfl rfl dX5_isSolved_45 hv hc9 hs9
    · have hv := hv.2 c7
      refine aw_aload_n 0 (x := x0) dX5_isSolved_33 rfl rfl ?_
      obtain ⟨⟨fs, he⟩, hv⟩ := hv
      obtain ⟨d2, mc2, ms2, Q, hM, hd9, hc9, hs9, hv, hx⟩ := hv
      refine aw_callV (rest := []) hM he rfl rfl nX5_isBroken q679 q619 q620 q132 q621 dX5_isSolved_34 rfl hd9 (by decide) (Nat.le_of_ble_eq_true rfl) hc9 hs9 ?_ ?_
      rotate_left
      · exact fun E h2 q => aX_out (hx E h2 q) rfl hc9 hs9
      intro v9 h9 hq
      have hv := hv v9 h9 hq
      obtain ⟨y8, rfl, hv⟩ := hv
      refine aw_eqv (pc2 := 37) (st2 := [.int y8]) rfl rfl rfl rfl ?_
      revert hv hc9 hs9; generalize c4 + mc2 = c10; generalize s5 + ms2 = s11; intro hc9 hs9 hv
      have J9 : AW l G mX5_isSolved d mc ms P 45 [(0, .ref x0), (1, .int x1), (2, .int x2)] [.int (if y8 = 0 then (1 : Int32) else 0)] h9 c10 s11 := by
        obtain ⟨z13, hv⟩ := hv
        exact aw_zret rfl z13.nar dX5_isSolved_45 hv hc9 hs9
      refine aw_if_ne 44 dX5_isSolved_37 (by decide) (fun c12 => ?_) (fun c12 => ?_)
      · have J9 := aw_ifF c12 J9
        refine aw_iconst (v := 0) dX5_isSolved_44 (by decide) ?_
        exact J9
      · have J9 := aw_ifT c12 J9
        refine aw_iconst (v := 1) dX5_isSolved_40 (by decide) ?_
        refine aw_goto 45 dX5_isSolved_41 (by decide) ?_
        exact J9
  · have hv := hv.2 c6
    refine aw_iload_n 1 dX5_isSolved_15 rfl rfl ?_
    refine aw_aload_n 0 (x := x0) dX5_isSolved_16 rfl rfl ?_
    refine aw_iload_n 2 dX5_isSolved_17 rfl rfl ?_
    obtain ⟨⟨fs, he⟩, hv⟩ := hv
    obtain ⟨d2, mc2, ms2, Q, hM, hd9, hc9, hs9, hv, hx⟩ := hv
    refine aw_callV (rest := [.int x1]) hM he rfl rfl nX5_isSettled q678 q610 q611 q132 q612 dX5_isSolved_18 rfl hd9 (by decide) (Nat.le_of_ble_eq_true rfl) hc9 hs9 ?_ ?_
    rotate_left
    · exact fun E h2 q => aX_out (hx E h2 q) rfl hc9 hs9
    intro v9 h15 hq
    have hv := hv v9 h15 hq
    obtain ⟨y14, rfl, hv⟩ := hv
    refine aw_eqv (pc2 := 21) (st2 := [.int y14, .int x1]) rfl rfl rfl rfl ?_
    revert hv hc9 hs9; generalize c4 + mc2 = c16; generalize s5 + ms2 = s17; intro hc9 hs9 hv
    refine aw_iand dX5_isSolved_21 ?_
    refine aw_istore_n (lv' := [(1, .int (x1 &&& y14)), (0, .ref x0), (2, .int x2)]) dX5_isSolved_22 rfl (Nat.le_of_ble_eq_true rfl) rfl ?_
    refine aw_iinc 2 (v := x2 + 1) (lv' := [(2, .int (x2 + 1)), (1, .int (x1 &&& y14)), (0, .ref x0)]) dX5_isSolved_23 rfl rfl (Nat.le_of_ble_eq_true rfl) rfl ?_
    refine aw_goto 4 dX5_isSolved_26 (by decide) ?_
    refine aw_sub [2, 1, 0] rfl ?_
    exact hv hc9 hs9
def V_X5_isSolved_0 (l : Launch) (G : aG) (d mc ms : Nat) (P : aR → aH → Prop) (x0 : Nat) (h : aH) : Prop :=
  T_X5_isSolved_4 l G d mc ms P x0 1 0 h 0 0
set_option maxHeartbeats 4000000 in
theorem A_X5_isSolved {l : Launch} {G : aG} {d mc ms : Nat} {P : aR → aH → Prop} {x0 : Nat} {h : aH} (hl : l.stackTraces = false) (hv : V_X5_isSolved_0 l G d mc ms P x0 h) : aC l G mX5_isSolved (wsN mX5_isSolved) d mc ms [.ref x0] h P := by
  refine aC_ofF (M := mX5_isSolved) rfl pX5_isSolved (Nat.le_of_ble_eq_true rfl) hl ?_
  refine aw_eqv (lv2 := [(0, .ref x0)]) rfl rfl rfl rfl ?_
  unfold V_X5_isSolved_0 at hv
  refine aw_iconst (v := 1) dX5_isSolved_0 (by decide) ?_
  refine aw_istore_n (lv' := [(1, .int 1), (0, .ref x0)]) dX5_isSolved_1 rfl (Nat.le_of_ble_eq_true rfl) rfl ?_
  refine aw_iconst (v := 0) dX5_isSolved_2 (by decide) ?_
  refine aw_istore_n (lv' := [(2, .int 0), (1, .int 1), (0, .ref x0)]) dX5_isSolved_3 rfl (Nat.le_of_ble_eq_true rfl) rfl ?_
  refine aw_sub [2, 1, 0] rfl ?_
  exact hv (Nat.zero_le _) (Nat.zero_le _)
def T_X5_brokenLines_4 (l : Launch) (G : aG) (d mc ms : Nat) (P : aR → aH → Prop) (x0 : Nat) (x1 : Int32) (x2 : Int32) (h : aH) (c s : Nat) : Prop := c ≤ mc → s ≤ ms → AW l G mX5_brokenLines d mc ms P 4 [(0, .ref x0), (1, .int x1), (2, .int x2)] [] h c s
def V_X5_brokenLines_4 (l : Launch) (G : aG) (d mc ms : Nat) (P : aR → aH → Prop) (x0 : Nat) (x1 : Int32) (x2 : Int32) (h : aH) (c s : Nat) : Prop :=
  vR h x0 5 0 fun a1 =>
  vIs h a1 3 (
  vC l G mX3_lineCount (wsN mX3_lineCount) d mc ms [.ref a1] h c s (xP P) (kI fun y2 h3 c4 s5 => 
  (y2 ≤ x2 → 
    P (.inl (some (.int x1))) h3
    ) ∧ (¬ y2 ≤ x2 → 
    vIs h3 x0 5 (
    vC l G mX5_isLineBroken (wsN mX5_isLineBroken) d mc ms [.ref x0, .int x2] h3 c4 s5 (xP P) (kI fun y7 h8 c9 s10 => 
    ∀ v12 : Int32, v12 = (x1 ||| (if y7 = 0 then (0 : Int32) else (1 : Int32) <<< (x2 &&& 31))) →
    T_X5_brokenLines_4 l G d mc ms P x0 v12 (x2 + 1) h8 c9 s10))
    )))
set_option maxHeartbeats 4000000 in
theorem A_X5_brokenLines_4 {l : Launch} {G : aG} {d mc ms : Nat} {P : aR → aH → Prop} {x0 : Nat} {x1 : Int32} {x2 : Int32} {h : aH} {c s : Nat} (hl : l.stackTraces = false) (hv : V_X5_brokenLines_4 l G d mc ms P x0 x1 x2 h c s) : T_X5_brokenLines_4 l G d mc ms P x0 x1 x2 h c s := by
  intro hc hs
  unfold V_X5_brokenLines_4 at hv
  refine aw_iload_n 2 dX5_brokenLines_4 rfl rfl ?_
  refine aw_aload_n 0 (x := x0) dX5_brokenLines_5 rfl rfl ?_
  obtain ⟨fs, a1, he, hx, hv⟩ := hv
  refine aw_get (v := .ref a1) he rfl in_X5 0 (by decide) q376 (Or.inl rfl) hx dX5_brokenLines_6 ?_
  obtain ⟨⟨fs, he⟩, hv⟩ := hv
  obtain ⟨d2, mc2, ms2, Q, hM, hd9, hc9, hs9, hv, hx⟩ := hv
  refine aw_callV (rest := [.int x2]) hM he rfl rfl nX3_lineCount q622 q314 q315 q121 q316 dX5_brokenLines_9 rfl hd9 (by decide) (Nat.le_of_ble_eq_true rfl) hc9 hs9 ?_ ?_
  rotate_left
  · exact fun E h2 q => aX_out (hx E h2 q) rfl hc9 hs9
  intro v9 h3 hq
  have hv := hv v9 h3 hq
  obtain ⟨y2, rfl, hv⟩ := hv
  refine aw_eqv (pc2 := 12) (st2 := [.int y2, .int x2]) rfl rfl rfl rfl ?_
  revert hv hc9 hs9; generalize c + mc2 = c4; generalize s + ms2 = s5; intro hc9 hs9 hv
  refine aw_icmp_ge 39 dX5_brokenLines_12 (by decide) (fun c6 => ?_) (fun c6 => ?_)
  · have hv := hv.1 c6
    refine aw_iload_n 1 dX5_brokenLines_39 rfl rfl ?_
    exact aw_iret rfl dX5_brokenLines_40 hv hc9 hs9
  · have hv := hv.2 c6
    refine aw_iload_n 1 dX5_brokenLines_15 rfl rfl ?_
    refine aw_aload_n 0 (x := x0) dX5_brokenLines_16 rfl rfl ?_
    refine aw_iload_n 2 dX5_brokenLines_17 rfl rfl ?_
    obtain ⟨⟨fs, he⟩, hv⟩ := hv
    obtain ⟨d2, mc2, ms2, Q, hM, hd9, hc9, hs9, hv, hx⟩ := hv
    refine aw_callV (rest := [.int x1]) hM he rfl rfl nX5_isLineBroken q623 q624 q625 q132 q626 dX5_brokenLines_18 rfl hd9 (by decide) (Nat.le_of_ble_eq_true rfl) hc9 hs9 ?_ ?_
    rotate_left
    · exact fun E h2 q => aX_out (hx E h2 q) rfl hc9 hs9
    intro v9 h8 hq
    have hv := hv v9 h8 hq
    obtain ⟨y7, rfl, hv⟩ := hv
    refine aw_eqv (pc2 := 21) (st2 := [.int y7, .int x1]) rfl rfl rfl rfl ?_
    revert hv hc9 hs9; generalize c4 + mc2 = c9; generalize s5 + ms2 = s10; intro hc9 hs9 hv
    have J9 : AW l G mX5_brokenLines d mc ms P 31 [(0, .ref x0), (1, .int x1), (2, .int x2)] [.int (if y7 = 0 then (0 : Int32) else (1 : Int32) <<< (x2 &&& 31)), .int x1] h8 c9 s10 := by
      refine aw_ior dX5_brokenLines_31 ?_
      refine aw_topi (fun v12 ev12 => ?_)
      have hv := hv v12 ev12
      refine aw_istore_n (lv' := [(1, .int v12), (0, .ref x0), (2, .int x2)]) dX5_brokenLines_32 rfl (Nat.le_of_ble_eq_true rfl) rfl ?_
      refine aw_iinc 2 (v := x2 + 1) (lv' := [(2, .int (x2 + 1)), (1, .int v12), (0, .ref x0)]) dX5_brokenLines_33 rfl rfl (Nat.le_of_ble_eq_true rfl) rfl ?_
      refine aw_goto 4 dX5_brokenLines_36 (by decide) ?_
      refine aw_sub [2, 1, 0] rfl ?_
      exact hv hc9 hs9
    refine aw_if_eq 30 dX5_brokenLines_21 (by decide) (fun c11 => ?_) (fun c11 => ?_)
    · have J9 := aw_ifT c11 J9
      refine aw_iconst (v := 0) dX5_brokenLines_30 (by decide) ?_
      exact J9
    · have J9 := aw_ifF c11 J9
      refine aw_iconst (v := 1) dX5_brokenLines_24 (by decide) ?_
      refine aw_iload_n 2 dX5_brokenLines_25 rfl rfl ?_
      refine aw_ishl dX5_brokenLines_26 ?_
      refine aw_goto 31 dX5_brokenLines_27 (by decide) ?_
      exact J9
def V_X5_brokenLines_0 (l : Launch) (G : aG) (d mc ms : Nat) (P : aR → aH → Prop) (x0 : Nat) (h : aH) : Prop :=
  T_X5_brokenLines_4 l G d mc ms P x0 0 0 h 0 0
set_option maxHeartbeats 4000000 in
theorem A_X5_brokenLines {l : Launch} {G : aG} {d mc ms : Nat} {P : aR → aH → Prop} {x0 : Nat} {h : aH} (hl : l.stackTraces = false) (hv : V_X5_brokenLines_0 l G d mc ms P x0 h) : aC l G mX5_brokenLines (wsN mX5_brokenLines) d mc ms [.ref x0] h P := by
  refine aC_ofF (M := mX5_brokenLines) rfl pX5_brokenLines (Nat.le_of_ble_eq_true rfl) hl ?_
  refine aw_eqv (lv2 := [(0, .ref x0)]) rfl rfl rfl rfl ?_
  unfold V_X5_brokenLines_0 at hv
  refine aw_iconst (v := 0) dX5_brokenLines_0 (by decide) ?_
  refine aw_istore_n (lv' := [(1, .int 0), (0, .ref x0)]) dX5_brokenLines_1 rfl (Nat.le_of_ble_eq_true rfl) rfl ?_
  refine aw_iconst (v := 0) dX5_brokenLines_2 (by decide) ?_
  refine aw_istore_n (lv' := [(2, .int 0), (1, .int 0), (0, .ref x0)]) dX5_brokenLines_3 rfl (Nat.le_of_ble_eq_true rfl) rfl ?_
  refine aw_sub [2, 1, 0] rfl ?_
  exact hv (Nat.zero_le _) (Nat.zero_le _)
def T_X5_linePossible_4 (l : Launch) (G : aG) (d mc ms : Nat) (P : aR → aH → Prop) (x0 : Nat) (x1 : Int32) (x2 : Int32) (x3 : Int32) (h : aH) (c s : Nat) : Prop := c ≤ mc → s ≤ ms → AW l G mX5_linePossible d mc ms P 4 [(0, .ref x0), (1, .int x1), (2, .int x2), (3, .int x3)] [] h c s
def T_X5_linePossible_54 (l : Launch) (G : aG) (d mc ms : Nat) (P : aR → aH → Prop) (x0 : Nat) (x1 : Int32) (x2 : Int32) (x3 : Int32) (x4 : Nat) (x5 : Int32) (h : aH) (c s : Nat) : Prop := c ≤ mc → s ≤ ms → AW l G mX5_linePossible d mc ms P 54 [(0, .ref x0), (1, .int x1), (2, .int x2), (3, .int x3), (4, .ref x4), (5, .int x5)] [] h c s
def V_X5_linePossible_4 (l : Launch) (G : aG) (d mc ms : Nat) (P : aR → aH → Prop) (x0 : Nat) (x1 : Int32) (x2 : Int32) (x3 : Int32) (h : aH) (c s : Nat) : Prop :=
  vR h x0 5 0 fun a1 =>
  vO h a1 3 3 fun o2 =>
  vSome o2 fun q3 =>
  vIs h q3 4 (
  vC l G mX4_count (wsN mX4_count) d mc ms [.ref q3] h c s (xP P) (kI fun y4 h5 c6 s7 => 
  (y4 ≤ x3 → 
    P (.inl (some (.int x2))) h5
    ) ∧ (¬ y4 ≤ x3 → 
    vR h5 x0 5 0 fun a9 =>
    vO h5 a9 3 3 fun o10 =>
    vSome o10 fun q11 =>
    vIs h5 q11 4 (
    vC l G mX4_at (wsN mX4_at) d mc ms [.ref q11, .int x3] h5 c6 s7 (xP P) (kR fun a12 h13 c14 s15 => 
    vIs h13 x0 5 (
    vC l G mX5_canHave (wsN mX5_canHave) d mc ms [.ref x0, .int x1, .ref a12] h13 c14 s15 (xP P) (kI fun y16 h17 c18 s19 => 
    (y16 = 0 → 
      vR h17 x0 5 0 fun a21 =>
      vI h17 a21 3 4 fun y22 =>
      T_X5_linePossible_54 l G d mc ms P x0 x1 x2 x3 a12 y22 h17 c18 s19
      ) ∧ (¬ y16 = 0 → 
      T_X5_linePossible_54 l G d mc ms P x0 x1 x2 x3 a12 0 h17 c18 s19
      )))))
    )))
set_option maxHeartbeats 4000000 in
theorem A_X5_linePossible_4 {l : Launch} {G : aG} {d mc ms : Nat} {P : aR → aH → Prop} {x0 : Nat} {x1 : Int32} {x2 : Int32} {x3 : Int32} {h : aH} {c s : Nat} (hl : l.stackTraces = false) (hv : V_X5_linePossible_4 l G d mc ms P x0 x1 x2 x3 h c s) : T_X5_linePossible_4 l G d mc ms P x0 x1 x2 x3 h c s := by
  intro hc hs
  unfold V_X5_linePossible_4 at hv
  refine aw_iload_n 3 dX5_linePossible_4 rfl rfl ?_
  refine aw_aload_n 0 (x := x0) dX5_linePossible_5 rfl rfl ?_
  obtain ⟨fs, a1, he, hx, hv⟩ := hv
  refine aw_get (v := .ref a1) he rfl in_X5 0 (by decide) q376 (Or.inl rfl) hx dX5_linePossible_6 ?_
  obtain ⟨fs, o2, he, hx, hv⟩ := hv
  refine aw_getN (v := va_rf o2) he rfl in_X3 3 (by decide) q329 (Or.inl rfl) hx dX5_linePossible_9 ?_
  obtain ⟨q3, hq9, hv⟩ := hv
  subst hq9
  refine aw_eqv (lv2 := [(0, .ref x0), (1, .int x1), (2, .int x2), (3, .int x3)]) (st2 := [.ref q3, .int x3]) rfl rfl rfl rfl ?_
  obtain ⟨⟨fs, he⟩, hv⟩ := hv
  obtain ⟨d2, mc2, ms2, Q, hM, hd9, hc9, hs9, hv, hx⟩ := hv
  refine aw_callV (rest := [.int x3]) hM he rfl rfl nX4_count q627 q628 q629 q122 q630 dX5_linePossible_12 rfl hd9 (by decide) (Nat.le_of_ble_eq_true rfl) hc9 hs9 ?_ ?_
  rotate_left
  · exact fun E h2 q => aX_out (hx E h2 q) rfl hc9 hs9
  intro v9 h5 hq
  have hv := hv v9 h5 hq
  obtain ⟨y4, rfl, hv⟩ := hv
  refine aw_eqv (pc2 := 15) (st2 := [.int y4, .int x3]) rfl rfl rfl rfl ?_
  revert hv hc9 hs9; generalize c + mc2 = c6; generalize s + ms2 = s7; intro hc9 hs9 hv
  refine aw_icmp_ge 93 dX5_linePossible_15 (by decide) (fun c8 => ?_) (fun c8 => ?_)
  · have hv := hv.1 c8
    refine aw_iload_n 2 dX5_linePossible_93 rfl rfl ?_
    exact aw_iret rfl dX5_linePossible_94 hv hc9 hs9
  · have hv := hv.2 c8
    refine aw_aload_n 0 (x := x0) dX5_linePossible_18 rfl rfl ?_
    obtain ⟨fs, a9, he, hx, hv⟩ := hv
    refine aw_get (v := .ref a9) he rfl in_X5 0 (by decide) q376 (Or.inl rfl) hx dX5_linePossible_19 ?_
    obtain ⟨fs, o10, he, hx, hv⟩ := hv
    refine aw_getN (v := va_rf o10) he rfl in_X3 3 (by decide) q329 (Or.inl rfl) hx dX5_linePossible_22 ?_
    refine aw_iload_n 3 dX5_linePossible_25 rfl rfl ?_
    obtain ⟨q11, hq9, hv⟩ := hv
    subst hq9
    refine aw_eqv (lv2 := [(0, .ref x0), (1, .int x1), (2, .int x2), (3, .int x3)]) (st2 := [.int x3, .ref q11]) rfl rfl rfl rfl ?_
    obtain ⟨⟨fs, he⟩, hv⟩ := hv
    obtain ⟨d2, mc2, ms2, Q, hM, hd9, hc9, hs9, hv, hx⟩ := hv
    refine aw_callV (rest := []) hM he rfl rfl nX4_at q633 q634 q635 q122 q636 dX5_linePossible_26 rfl hd9 (by decide) (Nat.le_of_ble_eq_true rfl) hc9 hs9 ?_ ?_
    rotate_left
    · exact fun E h2 q => aX_out (hx E h2 q) rfl hc9 hs9
    intro v9 h13 hq
    have hv := hv v9 h13 hq
    obtain ⟨a12, rfl, hv⟩ := hv
    refine aw_eqv (pc2 := 29) (st2 := [.ref a12]) rfl rfl rfl rfl ?_
    revert hv hc9 hs9; generalize c6 + mc2 = c14; generalize s7 + ms2 = s15; intro hc9 hs9 hv
    refine aw_astore (lv' := [(4, .ref a12), (0, .ref x0), (1, .int x1), (2, .int x2), (3, .int x3)]) dX5_linePossible_29 (Nat.le_of_ble_eq_true rfl) rfl ?_
    refine aw_aload_n 1 (x := x0) dX5_linePossible_31 rfl rfl ?_
    refine aw_iload_n 2 dX5_linePossible_32 rfl rfl ?_
    refine aw_aload 0 (x := a12) dX5_linePossible_33 rfl ?_
    obtain ⟨⟨fs, he⟩, hv⟩ := hv
    obtain ⟨d2, mc2, ms2, Q, hM, hd9, hc9, hs9, hv, hx⟩ := hv
    refine aw_callV (rest := []) hM he rfl rfl nX5_canHave q651 q653 qs10 q132 q654 dX5_linePossible_35 rfl hd9 (by decide) (Nat.le_of_ble_eq_true rfl) hc9 hs9 ?_ ?_
    rotate_left
    · exact fun E h2 q => aX_out (hx E h2 q) rfl hc9 hs9
    intro v9 h17 hq
    have hv := hv v9 h17 hq
    obtain ⟨y16, rfl, hv⟩ := hv
    refine aw_eqv (pc2 := 38) (st2 := [.int y16]) rfl rfl rfl rfl ?_
    revert hv hc9 hs9; generalize c14 + mc2 = c18; generalize s15 + ms2 = s19; intro hc9 hs9 hv
    refine aw_if_eq 45 dX5_linePossible_38 (by decide) (fun c20 => ?_) (fun c20 => ?_)
    · have hv := hv.1 c20
      refine aw_aload_n 1 (x := x0) dX5_linePossible_45 rfl rfl ?_
      obtain ⟨fs, a21, he, hx, hv⟩ := hv
      refine aw_get (v := .ref a21) he rfl in_X5 0 (by decide) q376 (Or.inl rfl) hx dX5_linePossible_46 ?_
      obtain ⟨fs, y22, he, hx, hv⟩ := hv
      refine aw_getN (v := .int y22) he rfl in_X3 4 (by decide) q331 (Or.inl rfl) hx dX5_linePossible_49 ?_
      refine aw_istore (lv' := [(5, .int y22), (4, .ref a12), (0, .ref x0), (1, .int x1), (2, .int x2), (3, .int x3)]) dX5_linePossible_52 (Nat.le_of_ble_eq_true rfl) rfl ?_
      refine aw_sub [2, 3, 4, 5, 1, 0] rfl ?_
      exact hv hc9 hs9
    · have hv := hv.2 c20
      refine aw_iconst (v := 0) dX5_linePossible_41 (by decide) ?_
      refine aw_goto 52 dX5_linePossible_42 (by decide) ?_
      refine aw_istore (lv' := [(5, .int 0), (4, .ref a12), (0, .ref x0), (1, .int x1), (2, .int x2), (3, .int x3)]) dX5_linePossible_52 (Nat.le_of_ble_eq_true rfl) rfl ?_
      refine aw_sub [2, 3, 4, 5, 1, 0] rfl ?_
      exact hv hc9 hs9
def V_X5_linePossible_54 (l : Launch) (G : aG) (d mc ms : Nat) (P : aR → aH → Prop) (x0 : Nat) (x1 : Int32) (x2 : Int32) (x3 : Int32) (x4 : Nat) (x5 : Int32) (h : aH) (c s : Nat) : Prop :=
  vR h x0 5 0 fun a23 =>
  vI h a23 3 4 fun y24 =>
  (y24 ≤ x5 → 
    T_X5_linePossible_4 l G d mc ms P x0 x1 x2 (x3 + 1) h c s
    ) ∧ (¬ y24 ≤ x5 → 
    vA .int h x4 x5 fun y26 =>
    ∀ v27 : Int32, v27 = (x2 ||| ((1 : Int32) <<< ((((5 : Int32) * x5) + y26) &&& 31))) →
    T_X5_linePossible_54 l G d mc ms P x0 x1 v27 x3 x4 (x5 + 1) h c s
    )
set_option maxHeartbeats 4000000 in
theorem A_X5_linePossible_54 {l : Launch} {G : aG} {d mc ms : Nat} {P : aR → aH → Prop} {x0 : Nat} {x1 : Int32} {x2 : Int32} {x3 : Int32} {x4 : Nat} {x5 : Int32} {h : aH} {c s : Nat} (hl : l.stackTraces = false) (hv : V_X5_linePossible_54 l G d mc ms P x0 x1 x2 x3 x4 x5 h c s) : T_X5_linePossible_54 l G d mc ms P x0 x1 x2 x3 x4 x5 h c s := by
  intro hc hs
  unfold V_X5_linePossible_54 at hv
  refine aw_iload 5 dX5_linePossible_54 rfl ?_
  refine aw_aload_n 0 (x := x0) dX5_linePossible_56 rfl rfl ?_
  obtain ⟨fs, a23, he, hx, hv⟩ := hv
  refine aw_get (v := .ref a23) he rfl in_X5 0 (by decide) q376 (Or.inl rfl) hx dX5_linePossible_57 ?_
  obtain ⟨fs, y24, he, hx, hv⟩ := hv
  refine aw_getN (v := .int y24) he rfl in_X3 4 (by decide) q331 (Or.inl rfl) hx dX5_linePossible_60 ?_
  refine aw_icmp_ge 87 dX5_linePossible_63 (by decide) (fun c25 => ?_) (fun c25 => ?_)
  · have hv := hv.1 c25
    refine aw_iinc 3 (v := x3 + 1) (lv' := [(3, .int (x3 + 1)), (0, .ref x0), (1, .int x1), (2, .int x2), (4, .ref x4), (5, .int x5)]) dX5_linePossible_87 rfl rfl (Nat.le_of_ble_eq_true rfl) rfl ?_
    refine aw_goto 4 dX5_linePossible_90 (by decide) ?_
    refine aw_sub [1, 2, 3, 0] rfl ?_
    exact hv hc hs
  · have hv := hv.2 c25
    refine aw_iload_n 2 dX5_linePossible_66 rfl rfl ?_
    refine aw_iconst (v := 1) dX5_linePossible_67 (by decide) ?_
    refine aw_iconst (v := 5) dX5_linePossible_68 (by decide) ?_
    refine aw_iload 5 dX5_linePossible_69 rfl ?_
    refine aw_imul dX5_linePossible_71 ?_
    refine aw_aload 4 (x := x4) dX5_linePossible_72 rfl ?_
    refine aw_iload 5 dX5_linePossible_74 rfl ?_
    obtain ⟨n9, f9, he, hin, hv⟩ := hv
    refine aw_iald he hin dX5_linePossible_76 ?_
    revert hv; generalize f9 (x5).toNatClampNeg = y26; intro hv
    refine aw_iadd dX5_linePossible_77 ?_
    refine aw_ishl dX5_linePossible_78 ?_
    refine aw_ior dX5_linePossible_79 ?_
    refine aw_topi (fun v27 ev27 => ?_)
    have hv := hv v27 ev27
    refine aw_istore_n (lv' := [(2, .int v27), (0, .ref x0), (1, .int x1), (3, .int x3), (4, .ref x4), (5, .int x5)]) dX5_linePossible_80 rfl (Nat.le_of_ble_eq_true rfl) rfl ?_
    refine aw_iinc 5 (v := x5 + 1) (lv' := [(5, .int (x5 + 1)), (2, .int v27), (0, .ref x0), (1, .int x1), (3, .int x3), (4, .ref x4)]) dX5_linePossible_81 rfl rfl (Nat.le_of_ble_eq_true rfl) rfl ?_
    refine aw_goto 54 dX5_linePossible_84 (by decide) ?_
    refine aw_sub [2, 3, 1, 4, 5, 0] rfl ?_
    exact hv hc hs
def V_X5_linePossible_0 (l : Launch) (G : aG) (d mc ms : Nat) (P : aR → aH → Prop) (x0 : Nat) (x1 : Int32) (h : aH) : Prop :=
  T_X5_linePossible_4 l G d mc ms P x0 x1 0 0 h 0 0
set_option maxHeartbeats 4000000 in
theorem A_X5_linePossible {l : Launch} {G : aG} {d mc ms : Nat} {P : aR → aH → Prop} {x0 : Nat} {x1 : Int32} {h : aH} (hl : l.stackTraces = false) (hv : V_X5_linePossible_0 l G d mc ms P x0 x1 h) : aC l G mX5_linePossible (wsN mX5_linePossible) d mc ms [.ref x0, .int x1] h P := by
  refine aC_ofF (M := mX5_linePossible) rfl pX5_linePossible (Nat.le_of_ble_eq_true rfl) hl ?_
  refine aw_eqv (lv2 := [(0, .ref x0), (1, .int x1)]) rfl rfl rfl rfl ?_
  unfold V_X5_linePossible_0 at hv
  refine aw_iconst (v := 0) dX5_linePossible_0 (by decide) ?_
  refine aw_istore_n (lv' := [(2, .int 0), (0, .ref x0), (1, .int x1)]) dX5_linePossible_1 rfl (Nat.le_of_ble_eq_true rfl) rfl ?_
  refine aw_iconst (v := 0) dX5_linePossible_2 (by decide) ?_
  refine aw_istore_n (lv' := [(3, .int 0), (2, .int 0), (0, .ref x0), (1, .int x1)]) dX5_linePossible_3 rfl (Nat.le_of_ble_eq_true rfl) rfl ?_
  refine aw_sub [2, 3, 1, 0] rfl ?_
  exact hv (Nat.zero_le _) (Nat.zero_le _)
def T_X5_fillLine_11 (l : Launch) (G : aG) (d mc ms : Nat) (P : aR → aH → Prop) (x0 : Nat) (x1 : Int32) (x2 : Int32) (x3 : Int32) (x4 : Int32) (h : aH) (c s : Nat) : Prop := c ≤ mc → s ≤ ms → AW l G mX5_fillLine d mc ms P 11 [(0, .ref x0), (1, .int x1), (2, .int x2), (3, .int x3), (4, .int x4)] [] h c s
def V_X5_fillLine_11 (l : Launch) (G : aG) (d mc ms : Nat) (P : aR → aH → Prop) (x0 : Nat) (x1 : Int32) (x2 : Int32) (x3 : Int32) (x4 : Int32) (h : aH) (c s : Nat) : Prop :=
  vR h x0 5 0 fun a1 =>
  vI h a1 3 4 fun y2 =>
  (y2 ≤ x4 → 
    vB x3 ∧ P (.inl (some (.int x3))) h
    ) ∧ (¬ y2 ≤ x4 → 
    vR h x0 5 0 fun a5 =>
    vR h a5 3 1 fun a6 =>
    vAR (.array .int) h a6 x1 fun a7 =>
    vA .int h a7 x4 fun y8 =>
    vR h x0 5 1 fun a9 =>
    vA .int h a9 y8 fun y10 =>
    ∀ v11 : Int32, v11 = (y10 &&& (x2 >>> (((5 : Int32) * x4) &&& 31))) →
    vR h x0 5 1 fun a12 =>
    vA .int h a12 y8 fun y13 =>
    ∀ v15 : Int32, v15 = (x3 ||| (if v11 = y13 then (0 : Int32) else 1)) →
    vR h x0 5 1 fun a16 =>
    vSt .int h a16 y8 v11 fun h17 =>
    T_X5_fillLine_11 l G d mc ms P x0 x1 x2 v15 (x4 + 1) h17 c s
    )
set_option maxHeartbeats 4000000 in
theorem A_X5_fillLine_11 {l : Launch} {G : aG} {d mc ms : Nat} {P : aR → aH → Prop} {x0 : Nat} {x1 : Int32} {x2 : Int32} {x3 : Int32} {x4 : Int32} {h : aH} {c s : Nat} (hl : l.stackTraces = false) (hv : V_X5_fillLine_11 l G d mc ms P x0 x1 x2 x3 x4 h c s) : T_X5_fillLine_11 l G d mc ms P x0 x1 x2 x3 x4 h c s := by
  intro hc hs
  unfold V_X5_fillLine_11 at hv
  refine aw_iload 4 dX5_fillLine_11 rfl ?_
  refine aw_aload_n 0 (x := x0) dX5_fillLine_13 rfl rfl ?_
  obtain ⟨fs, a1, he, hx, hv⟩ := hv
  refine aw_get (v := .ref a1) he rfl in_X5 0 (by decide) q376 (Or.inl rfl) hx dX5_fillLine_14 ?_
  obtain ⟨fs, y2, he, hx, hv⟩ := hv
  refine aw_getN (v := .int y2) he rfl in_X3 4 (by decide) q331 (Or.inl rfl) hx dX5_fillLine_17 ?_
  refine aw_icmp_ge 88 dX5_fillLine_20 (by decide) (fun c3 => ?_) (fun c3 => ?_)
  · have hv := hv.1 c3
    refine aw_iload_n 3 dX5_fillLine_88 rfl rfl ?_
    obtain ⟨z4, hv⟩ := hv
    exact aw_zret rfl z4.nar dX5_fillLine_89 hv hc hs
  · have hv := hv.2 c3
    refine aw_aload_n 0 (x := x0) dX5_fillLine_23 rfl rfl ?_
    obtain ⟨fs, a5, he, hx, hv⟩ := hv
    refine aw_get (v := .ref a5) he rfl in_X5 0 (by decide) q376 (Or.inl rfl) hx dX5_fillLine_24 ?_
    obtain ⟨fs, a6, he, hx, hv⟩ := hv
    refine aw_getN (v := .ref a6) he rfl in_X3 1 (by decide) q324 (Or.inl rfl) hx dX5_fillLine_27 ?_
    refine aw_iload_n 1 dX5_fillLine_30 rfl rfl ?_
    obtain ⟨n9, f9, a7, he, hin, hx, hv⟩ := hv
    refine aw_aald 7 rfl rfl he hin dX5_fillLine_31 ?_
    rw [hx]
    refine aw_eqv (st2 := [.ref a7]) rfl rfl rfl rfl ?_
    refine aw_iload 4 dX5_fillLine_32 rfl ?_
    obtain ⟨n9, f9, he, hin, hv⟩ := hv
    refine aw_iald he hin dX5_fillLine_34 ?_
    revert hv; generalize f9 (x4).toNatClampNeg = y8; intro hv
    refine aw_istore (lv' := [(5, .int y8), (0, .ref x0), (1, .int x1), (2, .int x2), (3, .int x3), (4, .int x4)]) dX5_fillLine_35 (Nat.le_of_ble_eq_true rfl) rfl ?_
    refine aw_aload_n 1 (x := x0) dX5_fillLine_37 rfl rfl ?_
    obtain ⟨fs, a9, he, hx, hv⟩ := hv
    refine aw_get (v := .ref a9) he rfl in_X5 1 (by decide) q377 (Or.inl rfl) hx dX5_fillLine_38 ?_
    refine aw_iload 0 dX5_fillLine_41 rfl ?_
    obtain ⟨n9, f9, he, hin, hv⟩ := hv
    refine aw_iald he hin dX5_fillLine_43 ?_
    revert hv; generalize f9 (y8).toNatClampNeg = y10; intro hv
    refine aw_iload_n 3 dX5_fillLine_44 rfl rfl ?_
    refine aw_iconst (v := 5) dX5_fillLine_45 (by decide) ?_
    refine aw_iload 5 dX5_fillLine_46 rfl ?_
    refine aw_imul dX5_fillLine_48 ?_
    refine aw_ishr dX5_fillLine_49 ?_
    refine aw_iand dX5_fillLine_50 ?_
    refine aw_topi (fun v11 ev11 => ?_)
    have hv := hv v11 ev11
    refine aw_istore (lv' := [(6, .int v11), (5, .int y8), (0, .ref x0), (1, .int x1), (2, .int x2), (3, .int x3), (4, .int x4)]) dX5_fillLine_51 (Nat.le_of_ble_eq_true rfl) rfl ?_
    refine aw_iload_n 5 dX5_fillLine_53 rfl rfl ?_
    refine aw_iload 0 dX5_fillLine_54 rfl ?_
    refine aw_aload_n 2 (x := x0) dX5_fillLine_56 rfl rfl ?_
    obtain ⟨fs, a12, he, hx, hv⟩ := hv
    refine aw_get (v := .ref a12) he rfl in_X5 1 (by decide) q377 (Or.inl rfl) hx dX5_fillLine_57 ?_
    refine aw_iload 1 dX5_fillLine_60 rfl ?_
    obtain ⟨n9, f9, he, hin, hv⟩ := hv
    refine aw_iald he hin dX5_fillLine_62 ?_
    revert hv; generalize f9 (y8).toNatClampNeg = y13; intro hv
    have J9 : AW l G mX5_fillLine d mc ms P 71 [(6, .int v11), (5, .int y8), (0, .ref x0), (1, .int x1), (2, .int x2), (3, .int x3), (4, .int x4)] [.int (if v11 = y13 then (0 : Int32) else 1), .int x3] h c s := by
      refine aw_ior dX5_fillLine_71 ?_
      refine aw_topi (fun v15 ev15 => ?_)
      have hv := hv v15 ev15
      refine aw_istore_n (lv' := [(3, .int v15), (6, .int v11), (5, .int y8), (0, .ref x0), (1, .int x1), (2, .int x2), (4, .int x4)]) dX5_fillLine_72 rfl (Nat.le_of_ble_eq_true rfl) rfl ?_
      refine aw_aload_n 3 (x := x0) dX5_fillLine_73 rfl rfl ?_
      obtain ⟨fs, a16, he, hx, hv⟩ := hv
      refine aw_get (v := .ref a16) he rfl in_X5 1 (by decide) q377 (Or.inl rfl) hx dX5_fillLine_74 ?_
      refine aw_iload 2 dX5_fillLine_77 rfl ?_
      refine aw_iload 1 dX5_fillLine_79 rfl ?_
      obtain ⟨n9, f9, he, hin, hv⟩ := hv
      refine aw_iast he hin rfl dX5_fillLine_81 ?_
      revert hv; generalize aUp h a16 (aInts .int n9 (upd f9 (y8).toNatClampNeg v11)) = h17; intro hv
      refine aw_iinc 6 (v := x4 + 1) (lv' := [(4, .int (x4 + 1)), (3, .int v15), (6, .int v11), (5, .int y8), (0, .ref x0), (1, .int x1), (2, .int x2)]) dX5_fillLine_82 rfl rfl (Nat.le_of_ble_eq_true rfl) rfl ?_
      refine aw_goto 11 dX5_fillLine_85 (by decide) ?_
      refine aw_sub [4, 5, 6, 1, 0] rfl ?_
      exact hv hc hs
    refine aw_icmp_eq 70 dX5_fillLine_63 (by decide) (fun c14 => ?_) (fun c14 => ?_)
    · have J9 := aw_ifT c14 J9
      refine aw_iconst (v := 0) dX5_fillLine_70 (by decide) ?_
      exact J9
    · have J9 := aw_ifF c14 J9
      refine aw_iconst (v := 1) dX5_fillLine_66 (by decide) ?_
      refine aw_goto 71 dX5_fillLine_67 (by decide) ?_
      exact J9
def V_X5_fillLine_0 (l : Launch) (G : aG) (d mc ms : Nat) (P : aR → aH → Prop) (x0 : Nat) (x1 : Int32) (h : aH) : Prop :=
  vIs h x0 5 (
  vC l G mX5_linePossible (wsN mX5_linePossible) d mc ms [.ref x0, .int x1] h 0 0 (xP P) (kI fun y18 h19 c20 s21 => 
  T_X5_fillLine_11 l G d mc ms P x0 x1 y18 0 0 h19 c20 s21))
set_option maxHeartbeats 4000000 in
theorem A_X5_fillLine {l : Launch} {G : aG} {d mc ms : Nat} {P : aR → aH → Prop} {x0 : Nat} {x1 : Int32} {h : aH} (hl : l.stackTraces = false) (hv : V_X5_fillLine_0 l G d mc ms P x0 x1 h) : aC l G mX5_fillLine (wsN mX5_fillLine) d mc ms [.ref x0, .int x1] h P := by
  refine aC_ofF (M := mX5_fillLine) rfl pX5_fillLine (Nat.le_of_ble_eq_true rfl) hl ?_
  refine aw_eqv (lv2 := [(0, .ref x0), (1, .int x1)]) rfl rfl rfl rfl ?_
  unfold V_X5_fillLine_0 at hv
  refine aw_aload_n 0 (x := x0) dX5_fillLine_0 rfl rfl ?_
  refine aw_iload_n 1 dX5_fillLine_1 rfl rfl ?_
  obtain ⟨⟨fs, he⟩, hv⟩ := hv
  obtain ⟨d2, mc2, ms2, Q, hM, hd9, hc9, hs9, hv, hx⟩ := hv
  refine aw_callV (rest := []) hM he rfl rfl nX5_linePossible q718 q720 qs17 q132 q721 dX5_fillLine_2 rfl hd9 (by decide) (Nat.le_of_ble_eq_true rfl) hc9 hs9 ?_ ?_
  rotate_left
  · exact fun E h2 q => aX_out (hx E h2 q) rfl hc9 hs9
  intro v9 h19 hq
  have hv := hv v9 h19 hq
  obtain ⟨y18, rfl, hv⟩ := hv
  refine aw_eqv (pc2 := 5) (st2 := [.int y18]) rfl rfl rfl rfl ?_
  revert hv hc9 hs9; generalize 0 + mc2 = c20; generalize 0 + ms2 = s21; intro hc9 hs9 hv
  refine aw_istore_n (lv' := [(2, .int y18), (0, .ref x0), (1, .int x1)]) dX5_fillLine_5 rfl (Nat.le_of_ble_eq_true rfl) rfl ?_
  refine aw_iconst (v := 0) dX5_fillLine_6 (by decide) ?_
  refine aw_istore_n (lv' := [(3, .int 0), (2, .int y18), (0, .ref x0), (1, .int x1)]) dX5_fillLine_7 rfl (Nat.le_of_ble_eq_true rfl) rfl ?_
  refine aw_iconst (v := 0) dX5_fillLine_8 (by decide) ?_
  refine aw_istore (lv' := [(4, .int 0), (3, .int 0), (2, .int y18), (0, .ref x0), (1, .int x1)]) dX5_fillLine_9 (Nat.le_of_ble_eq_true rfl) rfl ?_
  refine aw_sub [3, 4, 2, 1, 0] rfl ?_
  exact hv hc9 hs9
def T_X5_fill_2 (l : Launch) (G : aG) (d mc ms : Nat) (P : aR → aH → Prop) (x0 : Nat) (x1 : Int32) (h : aH) (c s : Nat) : Prop := c ≤ mc → s ≤ ms → AW l G mX5_fill d mc ms P 2 [(0, .ref x0), (1, .int x1)] [] h c s
def T_X5_fill_10 (l : Launch) (G : aG) (d mc ms : Nat) (P : aR → aH → Prop) (x0 : Nat) (x1 : Int32) (x2 : Int32) (h : aH) (c s : Nat) : Prop := c ≤ mc → s ≤ ms → AW l G mX5_fill d mc ms P 10 [(0, .ref x0), (1, .int x1), (2, .int x2)] [] h c s
def V_X5_fill_2 (l : Launch) (G : aG) (d mc ms : Nat) (P : aR → aH → Prop) (x0 : Nat) (x1 : Int32) (h : aH) (c s : Nat) : Prop :=
  (x1 = 0 → 
    P (.inl none) h
    ) ∧ (¬ x1 = 0 → 
    T_X5_fill_10 l G d mc ms P x0 0 0 h c s
    )
set_option maxHeartbeats 4000000 in
theorem A_X5_fill_2 {l : Launch} {G : aG} {d mc ms : Nat} {P : aR → aH → Prop} {x0 : Nat} {x1 : Int32} {h : aH} {c s : Nat} (hl : l.stackTraces = false) (hv : V_X5_fill_2 l G d mc ms P x0 x1 h c s) : T_X5_fill_2 l G d mc ms P x0 x1 h c s := by
  intro hc hs
  unfold V_X5_fill_2 at hv
  refine aw_iload_n 1 dX5_fill_2 rfl rfl ?_
  refine aw_if_eq 38 dX5_fill_3 (by decide) (fun c1 => ?_) (fun c1 => ?_)
  · have hv := hv.1 c1
    exact aw_vret rfl dX5_fill_38 hv hc hs
  · have hv := hv.2 c1
    refine aw_iconst (v := 0) dX5_fill_6 (by decide) ?_
    refine aw_istore_n (lv' := [(1, .int 0), (0, .ref x0)]) dX5_fill_7 rfl (Nat.le_of_ble_eq_true rfl) rfl ?_
    refine aw_iconst (v := 0) dX5_fill_8 (by decide) ?_
    refine aw_istore_n (lv' := [(2, .int 0), (1, .int 0), (0, .ref x0)]) dX5_fill_9 rfl (Nat.le_of_ble_eq_true rfl) rfl ?_
    refine aw_sub [2, 1, 0] rfl ?_
    exact hv hc hs
def V_X5_fill_10 (l : Launch) (G : aG) (d mc ms : Nat) (P : aR → aH → Prop) (x0 : Nat) (x1 : Int32) (x2 : Int32) (h : aH) (c s : Nat) : Prop :=
  vR h x0 5 0 fun a2 =>
  vIs h a2 3 (
  vC l G mX3_lineCount (wsN mX3_lineCount) d mc ms [.ref a2] h c s (xP P) (kI fun y3 h4 c5 s6 => 
  (y3 ≤ x2 → 
    T_X5_fill_2 l G d mc ms P x0 x1 h4 c5 s6
    ) ∧ (¬ y3 ≤ x2 → 
    vIs h4 x0 5 (
    vC l G mX5_fillLine (wsN mX5_fillLine) d mc ms [.ref x0, .int x2] h4 c5 s6 (xP P) (kI fun y8 h9 c10 s11 => 
    T_X5_fill_10 l G d mc ms P x0 (x1 ||| y8) (x2 + 1) h9 c10 s11))
    )))
set_option maxHeartbeats 4000000 in
theorem A_X5_fill_10 {l : Launch} {G : aG} {d mc ms : Nat} {P : aR → aH → Prop} {x0 : Nat} {x1 : Int32} {x2 : Int32} {h : aH} {c s : Nat} (hl : l.stackTraces = false) (hv : V_X5_fill_10 l G d mc ms P x0 x1 x2 h c s) : T_X5_fill_10 l G d mc ms P x0 x1 x2 h c s := by
  intro hc hs
  unfold V_X5_fill_10 at hv
  refine aw_iload_n 2 dX5_fill_10 rfl rfl ?_
  refine aw_aload_n 0 (x := x0) dX5_fill_11 rfl rfl ?_
  obtain ⟨fs, a2, he, hx, hv⟩ := hv
  refine aw_get (v := .ref a2) he rfl in_X5 0 (by decide) q376 (Or.inl rfl) hx dX5_fill_12 ?_
  obtain ⟨⟨fs, he⟩, hv⟩ := hv
  obtain ⟨d2, mc2, ms2, Q, hM, hd9, hc9, hs9, hv, hx⟩ := hv
  refine aw_callV (rest := [.int x2]) hM he rfl rfl nX3_lineCount q622 q314 q315 q121 q316 dX5_fill_15 rfl hd9 (by decide) (Nat.le_of_ble_eq_true rfl) hc9 hs9 ?_ ?_
  rotate_left
  · exact fun E h2 q => aX_out (hx E h2 q) rfl hc9 hs9
  intro v9 h4 hq
  have hv := hv v9 h4 hq
  obtain ⟨y3, rfl, hv⟩ := hv
  refine aw_eqv (pc2 := 18) (st2 := [.int y3, .int x2]) rfl rfl rfl rfl ?_
  revert hv hc9 hs9; generalize c + mc2 = c5; generalize s + ms2 = s6; intro hc9 hs9 hv
  refine aw_icmp_ge 35 dX5_fill_18 (by decide) (fun c7 => ?_) (fun c7 => ?_)
  · have hv := hv.1 c7
    refine aw_goto 2 dX5_fill_35 (by decide) ?_
    refine aw_sub [0, 1] rfl ?_
    exact hv hc9 hs9
  · have hv := hv.2 c7
    refine aw_iload_n 1 dX5_fill_21 rfl rfl ?_
    refine aw_aload_n 0 (x := x0) dX5_fill_22 rfl rfl ?_
    refine aw_iload_n 2 dX5_fill_23 rfl rfl ?_
    obtain ⟨⟨fs, he⟩, hv⟩ := hv
    obtain ⟨d2, mc2, ms2, Q, hM, hd9, hc9, hs9, hv, hx⟩ := hv
    refine aw_callV (rest := [.int x1]) hM he rfl rfl nX5_fillLine q714 q716 qs16 q132 q717 dX5_fill_24 rfl hd9 (by decide) (Nat.le_of_ble_eq_true rfl) hc9 hs9 ?_ ?_
    rotate_left
    · exact fun E h2 q => aX_out (hx E h2 q) rfl hc9 hs9
    intro v9 h9 hq
    have hv := hv v9 h9 hq
    obtain ⟨y8, rfl, hv⟩ := hv
    refine aw_eqv (pc2 := 27) (st2 := [.int y8, .int x1]) rfl rfl rfl rfl ?_
    revert hv hc9 hs9; generalize c5 + mc2 = c10; generalize s6 + ms2 = s11; intro hc9 hs9 hv
    refine aw_ior dX5_fill_27 ?_
    refine aw_istore_n (lv' := [(1, .int (x1 ||| y8)), (0, .ref x0), (2, .int x2)]) dX5_fill_28 rfl (Nat.le_of_ble_eq_true rfl) rfl ?_
    refine aw_iinc 2 (v := x2 + 1) (lv' := [(2, .int (x2 + 1)), (1, .int (x1 ||| y8)), (0, .ref x0)]) dX5_fill_29 rfl rfl (Nat.le_of_ble_eq_true rfl) rfl ?_
    refine aw_goto 10 dX5_fill_32 (by decide) ?_
    refine aw_sub [2, 1, 0] rfl ?_
    exact hv hc9 hs9
def V_X5_fill_0 (l : Launch) (G : aG) (d mc ms : Nat) (P : aR → aH → Prop) (x0 : Nat) (h : aH) : Prop :=
  T_X5_fill_2 l G d mc ms P x0 1 h 0 0
set_option maxHeartbeats 4000000 in
theorem A_X5_fill {l : Launch} {G : aG} {d mc ms : Nat} {P : aR → aH → Prop} {x0 : Nat} {h : aH} (hl : l.stackTraces = false) (hv : V_X5_fill_0 l G d mc ms P x0 h) : aC l G mX5_fill (wsN mX5_fill) d mc ms [.ref x0] h P := by
  refine aC_ofF (M := mX5_fill) rfl pX5_fill (Nat.le_of_ble_eq_true rfl) hl ?_
  refine aw_eqv (lv2 := [(0, .ref x0)]) rfl rfl rfl rfl ?_
  unfold V_X5_fill_0 at hv
  refine aw_iconst (v := 1) dX5_fill_0 (by decide) ?_
  refine aw_istore_n (lv' := [(1, .int 1), (0, .ref x0)]) dX5_fill_1 rfl (Nat.le_of_ble_eq_true rfl) rfl ?_
  refine aw_sub [1, 0] rfl ?_
  exact hv (Nat.zero_le _) (Nat.zero_le _)
def V_X5_breaksAs_0 (l : Launch) (G : aG) (d mc ms : Nat) (P : aR → aH → Prop) (x0 : Nat) (x1 : Int32) (x2 : Int32) (x3 : Nat) (h : aH) : Prop :=
  vIs h x3 5 (
  vC l G mX5_setThings (wsN mX5_setThings) d mc ms [.ref x3, .ref x0] h 0 0 (xP P) (kV fun h2 c3 s4 => 
  vR h2 x3 5 1 fun a5 =>
  vSt .int h2 a5 x1 ((1 : Int32) <<< (x2 &&& 31)) fun h6 =>
  vIs h6 x3 5 (
  vC l G mX5_fill (wsN mX5_fill) d mc ms [.ref x3] h6 c3 s4 (xP P) (kV fun h8 c9 s10 => 
  vIs h8 x3 5 (
  vC l G mX5_isBroken (wsN mX5_isBroken) d mc ms [.ref x3] h8 c9 s10 (xP P) (kI fun y11 h12 c13 s14 => 
  vB y11 ∧ P (.inl (some (.int y11))) h12))))))
set_option maxHeartbeats 4000000 in
theorem A_X5_breaksAs {l : Launch} {G : aG} {d mc ms : Nat} {P : aR → aH → Prop} {x0 : Nat} {x1 : Int32} {x2 : Int32} {x3 : Nat} {h : aH} (hl : l.stackTraces = false) (hv : V_X5_breaksAs_0 l G d mc ms P x0 x1 x2 x3 h) : aC l G mX5_breaksAs (wsN mX5_breaksAs) d mc ms [.ref x0, .int x1, .int x2, .ref x3] h P := by
  refine aC_ofF (M := mX5_breaksAs) rfl pX5_breaksAs (Nat.le_of_ble_eq_true rfl) hl ?_
  refine aw_eqv (lv2 := [(0, .ref x0), (1, .int x1), (2, .int x2), (3, .ref x3)]) rfl rfl rfl rfl ?_
  unfold V_X5_breaksAs_0 at hv
  refine aw_aload_n 3 (x := x3) dX5_breaksAs_0 rfl rfl ?_
  refine aw_aload_n 0 (x := x0) dX5_breaksAs_1 rfl rfl ?_
  obtain ⟨⟨fs, he⟩, hv⟩ := hv
  obtain ⟨d2, mc2, ms2, Q, hM, hd9, hc9, hs9, hv, hx⟩ := hv
  refine aw_callV (rest := []) hM he rfl rfl nX5_setThings q709 q513 q514 q132 q515 dX5_breaksAs_2 rfl hd9 (by decide) (Nat.le_of_ble_eq_true rfl) hc9 hs9 ?_ ?_
  rotate_left
  · exact fun E h2 q => aX_out (hx E h2 q) rfl hc9 hs9
  intro v9 h2 hq
  have hv := hv v9 h2 hq
  obtain ⟨rfl, hv⟩ := hv
  refine aw_eqv (pc2 := 5) (st2 := []) rfl rfl rfl rfl ?_
  revert hv hc9 hs9; generalize 0 + mc2 = c3; generalize 0 + ms2 = s4; intro hc9 hs9 hv
  refine aw_aload_n 3 (x := x3) dX5_breaksAs_5 rfl rfl ?_
  obtain ⟨fs, a5, he, hx, hv⟩ := hv
  refine aw_get (v := .ref a5) he rfl in_X5 1 (by decide) q377 (Or.inl rfl) hx dX5_breaksAs_6 ?_
  refine aw_iload_n 1 dX5_breaksAs_9 rfl rfl ?_
  refine aw_iconst (v := 1) dX5_breaksAs_10 (by decide) ?_
  refine aw_iload_n 2 dX5_breaksAs_11 rfl rfl ?_
  refine aw_ishl dX5_breaksAs_12 ?_
  obtain ⟨n9, f9, he, hin, hv⟩ := hv
  refine aw_iast he hin rfl dX5_breaksAs_13 ?_
  revert hv; generalize aUp h2 a5 (aInts .int n9 (upd f9 (x1).toNatClampNeg ((1 : Int32) <<< (x2 &&& 31)))) = h6; intro hv
  refine aw_aload_n 3 (x := x3) dX5_breaksAs_14 rfl rfl ?_
  obtain ⟨⟨fs, he⟩, hv⟩ := hv
  obtain ⟨d2, mc2, ms2, Q, hM, hd9, hc9, hs9, hv, hx⟩ := hv
  refine aw_callV (rest := []) hM he rfl rfl nX5_fill q710 q712 qs15 q132 q713 dX5_breaksAs_15 rfl hd9 (by decide) (Nat.le_of_ble_eq_true rfl) hc9 hs9 ?_ ?_
  rotate_left
  · exact fun E h2 q => aX_out (hx E h2 q) rfl hc9 hs9
  intro v9 h8 hq
  have hv := hv v9 h8 hq
  obtain ⟨rfl, hv⟩ := hv
  refine aw_eqv (pc2 := 18) (st2 := []) rfl rfl rfl rfl ?_
  revert hv hc9 hs9; generalize c3 + mc2 = c9; generalize s4 + ms2 = s10; intro hc9 hs9 hv
  refine aw_aload_n 3 (x := x3) dX5_breaksAs_18 rfl rfl ?_
  obtain ⟨⟨fs, he⟩, hv⟩ := hv
  obtain ⟨d2, mc2, ms2, Q, hM, hd9, hc9, hs9, hv, hx⟩ := hv
  refine aw_callV (rest := []) hM he rfl rfl nX5_isBroken q679 q619 q620 q132 q621 dX5_breaksAs_19 rfl hd9 (by decide) (Nat.le_of_ble_eq_true rfl) hc9 hs9 ?_ ?_
  rotate_left
  · exact fun E h2 q => aX_out (hx E h2 q) rfl hc9 hs9
  intro v9 h12 hq
  have hv := hv v9 h12 hq
  obtain ⟨y11, rfl, hv⟩ := hv
  refine aw_eqv (pc2 := 22) (st2 := [.int y11]) rfl rfl rfl rfl ?_
  revert hv hc9 hs9; generalize c9 + mc2 = c13; generalize s10 + ms2 = s14; intro hc9 hs9 hv
  obtain ⟨z15, hv⟩ := hv
  exact aw_zret rfl z15.nar dX5_breaksAs_22 hv hc9 hs9
def T_X5_settledWith_6 (l : Launch) (G : aG) (d mc ms : Nat) (P : aR → aH → Prop) (x0 : Nat) (x1 : Int32) (x2 : Int32) (x3 : Int32) (x4 : Int32) (x5 : Int32) (h : aH) (c s : Nat) : Prop := c ≤ mc → s ≤ ms → AW l G mX5_settledWith d mc ms P 6 [(0, .ref x0), (1, .int x1), (2, .int x2), (3, .int x3), (4, .int x4), (5, .int x5)] [] h c s
def V_X5_settledWith_6 (l : Launch) (G : aG) (d mc ms : Nat) (P : aR → aH → Prop) (x0 : Nat) (x1 : Int32) (x2 : Int32) (x3 : Int32) (x4 : Int32) (x5 : Int32) (h : aH) (c s : Nat) : Prop :=
  vR h x0 5 0 fun a1 =>
  vI h a1 3 4 fun y2 =>
  (y2 ≤ x5 → 
    P (.inl (some (.int x4))) h
    ) ∧ (¬ y2 ≤ x5 → 
    vR h x0 5 0 fun a4 =>
    vR h a4 3 1 fun a5 =>
    vAR (.array .int) h a5 x1 fun a6 =>
    vA .int h a6 x5 fun y7 =>
    (y7 = x3 → 
      T_X5_settledWith_6 l G d mc ms P x0 x1 x2 x3 (x4 ||| (0 : Int32)) (x5 + 1) h c s
      ) ∧ (¬ y7 = x3 → 
      vR h x0 5 1 fun a9 =>
      vA .int h a9 y7 fun y10 =>
      ∀ v12 : Int32, v12 = (x4 ||| (if y10 = ((1 : Int32) <<< (x2 &&& 31)) then ((1 : Int32) <<< (x5 &&& 31)) else 0)) →
      T_X5_settledWith_6 l G d mc ms P x0 x1 x2 x3 v12 (x5 + 1) h c s
      )
    )
set_option maxHeartbeats 4000000 in
theorem A_X5_settledWith_6 {l : Launch} {G : aG} {d mc ms : Nat} {P : aR → aH → Prop} {x0 : Nat} {x1 : Int32} {x2 : Int32} {x3 : Int32} {x4 : Int32} {x5 : Int32} {h : aH} {c s : Nat} (hl : l.stackTraces = false) (hv : V_X5_settledWith_6 l G d mc ms P x0 x1 x2 x3 x4 x5 h c s) : T_X5_settledWith_6 l G d mc ms P x0 x1 x2 x3 x4 x5 h c s := by
  intro hc hs
  unfold V_X5_settledWith_6 at hv
  refine aw_iload 5 dX5_settledWith_6 rfl ?_
  refine aw_aload_n 0 (x := x0) dX5_settledWith_8 rfl rfl ?_
  obtain ⟨fs, a1, he, hx, hv⟩ := hv
  refine aw_get (v := .ref a1) he rfl in_X5 0 (by decide) q376 (Or.inl rfl) hx dX5_settledWith_9 ?_
  obtain ⟨fs, y2, he, hx, hv⟩ := hv
  refine aw_getN (v := .int y2) he rfl in_X3 4 (by decide) q331 (Or.inl rfl) hx dX5_settledWith_12 ?_
  refine aw_icmp_ge 70 dX5_settledWith_15 (by decide) (fun c3 => ?_) (fun c3 => ?_)
  · have hv := hv.1 c3
    refine aw_iload 4 dX5_settledWith_70 rfl ?_
    exact aw_iret rfl dX5_settledWith_72 hv hc hs
  · have hv := hv.2 c3
    refine aw_aload_n 0 (x := x0) dX5_settledWith_18 rfl rfl ?_
    obtain ⟨fs, a4, he, hx, hv⟩ := hv
    refine aw_get (v := .ref a4) he rfl in_X5 0 (by decide) q376 (Or.inl rfl) hx dX5_settledWith_19 ?_
    obtain ⟨fs, a5, he, hx, hv⟩ := hv
    refine aw_getN (v := .ref a5) he rfl in_X3 1 (by decide) q324 (Or.inl rfl) hx dX5_settledWith_22 ?_
    refine aw_iload_n 1 dX5_settledWith_25 rfl rfl ?_
    obtain ⟨n9, f9, a6, he, hin, hx, hv⟩ := hv
    refine aw_aald 7 rfl rfl he hin dX5_settledWith_26 ?_
    rw [hx]
    refine aw_eqv (st2 := [.ref a6]) rfl rfl rfl rfl ?_
    refine aw_iload 5 dX5_settledWith_27 rfl ?_
    obtain ⟨n9, f9, he, hin, hv⟩ := hv
    refine aw_iald he hin dX5_settledWith_29 ?_
    revert hv; generalize f9 (x5).toNatClampNeg = y7; intro hv
    refine aw_istore (lv' := [(6, .int y7), (0, .ref x0), (1, .int x1), (2, .int x2), (3, .int x3), (4, .int x4), (5, .int x5)]) dX5_settledWith_30 (Nat.le_of_ble_eq_true rfl) rfl ?_
    refine aw_iload 5 dX5_settledWith_32 rfl ?_
    refine aw_iload 0 dX5_settledWith_34 rfl ?_
    refine aw_iload_n 4 dX5_settledWith_36 rfl rfl ?_
    refine aw_icmp_eq 60 dX5_settledWith_37 (by decide) (fun c8 => ?_) (fun c8 => ?_)
    · have hv := hv.1 c8
      refine aw_iconst (v := 0) dX5_settledWith_60 (by decide) ?_
      refine aw_ior dX5_settledWith_61 ?_
      refine aw_istore (lv' := [(4, .int (x4 ||| (0 : Int32))), (6, .int y7), (0, .ref x0), (1, .int x1), (2, .int x2), (3, .int x3), (5, .int x5)]) dX5_settledWith_62 (Nat.le_of_ble_eq_true rfl) rfl ?_
      refine aw_iinc 6 (v := x5 + 1) (lv' := [(5, .int (x5 + 1)), (4, .int (x4 ||| (0 : Int32))), (6, .int y7), (0, .ref x0), (1, .int x1), (2, .int x2), (3, .int x3)]) dX5_settledWith_64 rfl rfl (Nat.le_of_ble_eq_true rfl) rfl ?_
      refine aw_goto 6 dX5_settledWith_67 (by decide) ?_
      refine aw_sub [3, 4, 5, 6, 1, 0] rfl ?_
      exact hv hc hs
    · have hv := hv.2 c8
      refine aw_aload_n 1 (x := x0) dX5_settledWith_40 rfl rfl ?_
      obtain ⟨fs, a9, he, hx, hv⟩ := hv
      refine aw_get (v := .ref a9) he rfl in_X5 1 (by decide) q377 (Or.inl rfl) hx dX5_settledWith_41 ?_
      refine aw_iload 0 dX5_settledWith_44 rfl ?_
      obtain ⟨n9, f9, he, hin, hv⟩ := hv
      refine aw_iald he hin dX5_settledWith_46 ?_
      revert hv; generalize f9 (y7).toNatClampNeg = y10; intro hv
      refine aw_iconst (v := 1) dX5_settledWith_47 (by decide) ?_
      refine aw_iload_n 3 dX5_settledWith_48 rfl rfl ?_
      refine aw_ishl dX5_settledWith_49 ?_
      have J9 : AW l G mX5_settledWith d mc ms P 61 [(6, .int y7), (0, .ref x0), (1, .int x1), (2, .int x2), (3, .int x3), (4, .int x4), (5, .int x5)] [.int (if y10 = ((1 : Int32) <<< (x2 &&& 31)) then ((1 : Int32) <<< (x5 &&& 31)) else 0), .int x4] h c s := by
        refine aw_ior dX5_settledWith_61 ?_
        refine aw_topi (fun v12 ev12 => ?_)
        have hv := hv v12 ev12
        refine aw_istore (lv' := [(4, .int v12), (6, .int y7), (0, .ref x0), (1, .int x1), (2, .int x2), (3, .int x3), (5, .int x5)]) dX5_settledWith_62 (Nat.le_of_ble_eq_true rfl) rfl ?_
        refine aw_iinc 6 (v := x5 + 1) (lv' := [(5, .int (x5 + 1)), (4, .int v12), (6, .int y7), (0, .ref x0), (1, .int x1), (2, .int x2), (3, .int x3)]) dX5_settledWith_64 rfl rfl (Nat.le_of_ble_eq_true rfl) rfl ?_
        refine aw_goto 6 dX5_settledWith_67 (by decide) ?_
        refine aw_sub [3, 4, 5, 6, 1, 0] rfl ?_
        exact hv hc hs
      refine aw_icmp_ne 60 dX5_settledWith_50 (by decide) (fun c11 => ?_) (fun c11 => ?_)
      · have J9 := aw_ifF c11 J9
        refine aw_iconst (v := 0) dX5_settledWith_60 (by decide) ?_
        exact J9
      · have J9 := aw_ifT c11 J9
        refine aw_iconst (v := 1) dX5_settledWith_53 (by decide) ?_
        refine aw_iload 6 dX5_settledWith_54 rfl ?_
        refine aw_ishl dX5_settledWith_56 ?_
        refine aw_goto 61 dX5_settledWith_57 (by decide) ?_
        exact J9
def V_X5_settledWith_0 (l : Launch) (G : aG) (d mc ms : Nat) (P : aR → aH → Prop) (x0 : Nat) (x1 : Int32) (x2 : Int32) (x3 : Int32) (h : aH) : Prop :=
  T_X5_settledWith_6 l G d mc ms P x0 x1 x2 x3 0 0 h 0 0
set_option maxHeartbeats 4000000 in
theorem A_X5_settledWith {l : Launch} {G : aG} {d mc ms : Nat} {P : aR → aH → Prop} {x0 : Nat} {x1 : Int32} {x2 : Int32} {x3 : Int32} {h : aH} (hl : l.stackTraces = false) (hv : V_X5_settledWith_0 l G d mc ms P x0 x1 x2 x3 h) : aC l G mX5_settledWith (wsN mX5_settledWith) d mc ms [.ref x0, .int x1, .int x2, .int x3] h P := by
  refine aC_ofF (M := mX5_settledWith) rfl pX5_settledWith (Nat.le_of_ble_eq_true rfl) hl ?_
  refine aw_eqv (lv2 := [(0, .ref x0), (1, .int x1), (2, .int x2), (3, .int x3)]) rfl rfl rfl rfl ?_
  unfold V_X5_settledWith_0 at hv
  refine aw_iconst (v := 0) dX5_settledWith_0 (by decide) ?_
  refine aw_istore (lv' := [(4, .int 0), (0, .ref x0), (1, .int x1), (2, .int x2), (3, .int x3)]) dX5_settledWith_1 (Nat.le_of_ble_eq_true rfl) rfl ?_
  refine aw_iconst (v := 0) dX5_settledWith_3 (by decide) ?_
  refine aw_istore (lv' := [(5, .int 0), (4, .int 0), (0, .ref x0), (1, .int x1), (2, .int x2), (3, .int x3)]) dX5_settledWith_4 (Nat.le_of_ble_eq_true rfl) rfl ?_
  refine aw_sub [2, 3, 4, 5, 1, 0] rfl ?_
  exact hv (Nat.zero_le _) (Nat.zero_le _)
def T_X5_placeIn_2 (l : Launch) (G : aG) (d mc ms : Nat) (P : aR → aH → Prop) (x0 : Nat) (x1 : Int32) (x2 : Int32) (x3 : Int32) (h : aH) (c s : Nat) : Prop := c ≤ mc → s ≤ ms → AW l G mX5_placeIn d mc ms P 2 [(0, .ref x0), (1, .int x1), (2, .int x2), (3, .int x3)] [] h c s
def V_X5_placeIn_2 (l : Launch) (G : aG) (d mc ms : Nat) (P : aR → aH → Prop) (x0 : Nat) (x1 : Int32) (x2 : Int32) (x3 : Int32) (h : aH) (c s : Nat) : Prop :=
  vR h x0 5 0 fun a1 =>
  vR h a1 3 1 fun a2 =>
  vAR (.array .int) h a2 x1 fun a3 =>
  vA .int h a3 x3 fun y4 =>
  (y4 = x2 → 
    P (.inl (some (.int x3))) h
    ) ∧ (¬ y4 = x2 → 
    T_X5_placeIn_2 l G d mc ms P x0 x1 x2 (x3 + 1) h c s
    )
set_option maxHeartbeats 4000000 in
theorem A_X5_placeIn_2 {l : Launch} {G : aG} {d mc ms : Nat} {P : aR → aH → Prop} {x0 : Nat} {x1 : Int32} {x2 : Int32} {x3 : Int32} {h : aH} {c s : Nat} (hl : l.stackTraces = false) (hv : V_X5_placeIn_2 l G d mc ms P x0 x1 x2 x3 h c s) : T_X5_placeIn_2 l G d mc ms P x0 x1 x2 x3 h c s := by
  intro hc hs
  unfold V_X5_placeIn_2 at hv
  refine aw_aload_n 0 (x := x0) dX5_placeIn_2 rfl rfl ?_
  obtain ⟨fs, a1, he, hx, hv⟩ := hv
  refine aw_get (v := .ref a1) he rfl in_X5 0 (by decide) q376 (Or.inl rfl) hx dX5_placeIn_3 ?_
  obtain ⟨fs, a2, he, hx, hv⟩ := hv
  refine aw_getN (v := .ref a2) he rfl in_X3 1 (by decide) q324 (Or.inl rfl) hx dX5_placeIn_6 ?_
  refine aw_iload_n 1 dX5_placeIn_9 rfl rfl ?_
  obtain ⟨n9, f9, a3, he, hin, hx, hv⟩ := hv
  refine aw_aald 7 rfl rfl he hin dX5_placeIn_10 ?_
  rw [hx]
  refine aw_eqv (st2 := [.ref a3]) rfl rfl rfl rfl ?_
  refine aw_iload_n 3 dX5_placeIn_11 rfl rfl ?_
  obtain ⟨n9, f9, he, hin, hv⟩ := hv
  refine aw_iald he hin dX5_placeIn_12 ?_
  revert hv; generalize f9 (x3).toNatClampNeg = y4; intro hv
  refine aw_iload_n 2 dX5_placeIn_13 rfl rfl ?_
  refine aw_icmp_eq 23 dX5_placeIn_14 (by decide) (fun c5 => ?_) (fun c5 => ?_)
  · have hv := hv.1 c5
    refine aw_iload_n 3 dX5_placeIn_23 rfl rfl ?_
    exact aw_iret rfl dX5_placeIn_24 hv hc hs
  · have hv := hv.2 c5
    refine aw_iinc 3 (v := x3 + 1) (lv' := [(3, .int (x3 + 1)), (0, .ref x0), (1, .int x1), (2, .int x2)]) dX5_placeIn_17 rfl rfl (Nat.le_of_ble_eq_true rfl) rfl ?_
    refine aw_goto 2 dX5_placeIn_20 (by decide) ?_
    refine aw_sub [1, 2, 3, 0] rfl ?_
    exact hv hc hs
def V_X5_placeIn_0 (l : Launch) (G : aG) (d mc ms : Nat) (P : aR → aH → Prop) (x0 : Nat) (x1 : Int32) (x2 : Int32) (h : aH) : Prop :=
  T_X5_placeIn_2 l G d mc ms P x0 x1 x2 0 h 0 0
set_option maxHeartbeats 4000000 in
theorem A_X5_placeIn {l : Launch} {G : aG} {d mc ms : Nat} {P : aR → aH → Prop} {x0 : Nat} {x1 : Int32} {x2 : Int32} {h : aH} (hl : l.stackTraces = false) (hv : V_X5_placeIn_0 l G d mc ms P x0 x1 x2 h) : aC l G mX5_placeIn (wsN mX5_placeIn) d mc ms [.ref x0, .int x1, .int x2] h P := by
  refine aC_ofF (M := mX5_placeIn) rfl pX5_placeIn (Nat.le_of_ble_eq_true rfl) hl ?_
  refine aw_eqv (lv2 := [(0, .ref x0), (1, .int x1), (2, .int x2)]) rfl rfl rfl rfl ?_
  unfold V_X5_placeIn_0 at hv
  refine aw_iconst (v := 0) dX5_placeIn_0 (by decide) ?_
  refine aw_istore_n (lv' := [(3, .int 0), (0, .ref x0), (1, .int x1), (2, .int x2)]) dX5_placeIn_1 rfl (Nat.le_of_ble_eq_true rfl) rfl ?_
  refine aw_sub [1, 2, 3, 0] rfl ?_
  exact hv (Nat.zero_le _) (Nat.zero_le _)
def T_X5_placesWith_5 (l : Launch) (G : aG) (d mc ms : Nat) (P : aR → aH → Prop) (x0 : Nat) (x1 : Int32) (x2 : Int32) (x3 : Int32) (x4 : Int32) (h : aH) (c s : Nat) : Prop := c ≤ mc → s ≤ ms → AW l G mX5_placesWith d mc ms P 5 [(0, .ref x0), (1, .int x1), (2, .int x2), (3, .int x3), (4, .int x4)] [] h c s
def V_X5_placesWith_5 (l : Launch) (G : aG) (d mc ms : Nat) (P : aR → aH → Prop) (x0 : Nat) (x1 : Int32) (x2 : Int32) (x3 : Int32) (x4 : Int32) (h : aH) (c s : Nat) : Prop :=
  vR h x0 5 0 fun a1 =>
  vI h a1 3 4 fun y2 =>
  (y2 ≤ x4 → 
    P (.inl (some (.int x3))) h
    ) ∧ (¬ y2 ≤ x4 → 
    vR h x0 5 1 fun a4 =>
    vR h x0 5 0 fun a5 =>
    vR h a5 3 1 fun a6 =>
    vAR (.array .int) h a6 x1 fun a7 =>
    vA .int h a7 x4 fun y8 =>
    vA .int h a4 y8 fun y9 =>
    vC l G mX1_has (wsN mX1_has) d mc ms [.int y9, .int x2] h c s (xP P) (kI fun y10 h11 c12 s13 => 
    ∀ v15 : Int32, v15 = (x3 ||| (if y10 = 0 then (0 : Int32) else (1 : Int32) <<< (x4 &&& 31))) →
    T_X5_placesWith_5 l G d mc ms P x0 x1 x2 v15 (x4 + 1) h11 c12 s13)
    )
set_option maxHeartbeats 4000000 in
theorem A_X5_placesWith_5 {l : Launch} {G : aG} {d mc ms : Nat} {P : aR → aH → Prop} {x0 : Nat} {x1 : Int32} {x2 : Int32} {x3 : Int32} {x4 : Int32} {h : aH} {c s : Nat} (hl : l.stackTraces = false) (hv : V_X5_placesWith_5 l G d mc ms P x0 x1 x2 x3 x4 h c s) : T_X5_placesWith_5 l G d mc ms P x0 x1 x2 x3 x4 h c s := by
  intro hc hs
  unfold V_X5_placesWith_5 at hv
  refine aw_iload 4 dX5_placesWith_5 rfl ?_
  refine aw_aload_n 0 (x := x0) dX5_placesWith_7 rfl rfl ?_
  obtain ⟨fs, a1, he, hx, hv⟩ := hv
  refine aw_get (v := .ref a1) he rfl in_X5 0 (by decide) q376 (Or.inl rfl) hx dX5_placesWith_8 ?_
  obtain ⟨fs, y2, he, hx, hv⟩ := hv
  refine aw_getN (v := .int y2) he rfl in_X3 4 (by decide) q331 (Or.inl rfl) hx dX5_placesWith_11 ?_
  refine aw_icmp_ge 58 dX5_placesWith_14 (by decide) (fun c3 => ?_) (fun c3 => ?_)
  · have hv := hv.1 c3
    refine aw_iload_n 3 dX5_placesWith_58 rfl rfl ?_
    exact aw_iret rfl dX5_placesWith_59 hv hc hs
  · have hv := hv.2 c3
    refine aw_iload_n 3 dX5_placesWith_17 rfl rfl ?_
    refine aw_aload_n 0 (x := x0) dX5_placesWith_18 rfl rfl ?_
    obtain ⟨fs, a4, he, hx, hv⟩ := hv
    refine aw_get (v := .ref a4) he rfl in_X5 1 (by decide) q377 (Or.inl rfl) hx dX5_placesWith_19 ?_
    refine aw_aload_n 0 (x := x0) dX5_placesWith_22 rfl rfl ?_
    obtain ⟨fs, a5, he, hx, hv⟩ := hv
    refine aw_get (v := .ref a5) he rfl in_X5 0 (by decide) q376 (Or.inl rfl) hx dX5_placesWith_23 ?_
    obtain ⟨fs, a6, he, hx, hv⟩ := hv
    refine aw_getN (v := .ref a6) he rfl in_X3 1 (by decide) q324 (Or.inl rfl) hx dX5_placesWith_26 ?_
    refine aw_iload_n 1 dX5_placesWith_29 rfl rfl ?_
    obtain ⟨n9, f9, a7, he, hin, hx, hv⟩ := hv
    refine aw_aald 7 rfl rfl he hin dX5_placesWith_30 ?_
    rw [hx]
    refine aw_eqv (st2 := [.ref a7, .ref a4, .int x3]) rfl rfl rfl rfl ?_
    refine aw_iload 4 dX5_placesWith_31 rfl ?_
    obtain ⟨n9, f9, he, hin, hv⟩ := hv
    refine aw_iald he hin dX5_placesWith_33 ?_
    revert hv; generalize f9 (x4).toNatClampNeg = y8; intro hv
    obtain ⟨n9, f9, he, hin, hv⟩ := hv
    refine aw_iald he hin dX5_placesWith_34 ?_
    revert hv; generalize f9 (y8).toNatClampNeg = y9; intro hv
    refine aw_iload_n 2 dX5_placesWith_35 rfl rfl ?_
    obtain ⟨d2, mc2, ms2, Q, hM, hd9, hc9, hs9, hv, hx⟩ := hv
    refine aw_callSN (rest := [.int x3]) hM nX1_has q655 q298 q119 q299 dX5_placesWith_36 rfl hd9 (by decide) (Nat.le_of_ble_eq_true rfl) hc9 hs9 ?_ ?_
    rotate_left
    · exact fun E h2 q => aX_out (hx E h2 q) rfl hc9 hs9
    intro v9 h11 hq
    have hv := hv v9 h11 hq
    obtain ⟨y10, rfl, hv⟩ := hv
    refine aw_eqv (pc2 := 39) (st2 := [.int y10, .int x3]) rfl rfl rfl rfl ?_
    revert hv hc9 hs9; generalize c + mc2 = c12; generalize s + ms2 = s13; intro hc9 hs9 hv
    have J9 : AW l G mX5_placesWith d mc ms P 50 [(0, .ref x0), (1, .int x1), (2, .int x2), (3, .int x3), (4, .int x4)] [.int (if y10 = 0 then (0 : Int32) else (1 : Int32) <<< (x4 &&& 31)), .int x3] h11 c12 s13 := by
      refine aw_ior dX5_placesWith_50 ?_
      refine aw_topi (fun v15 ev15 => ?_)
      have hv := hv v15 ev15
      refine aw_istore_n (lv' := [(3, .int v15), (0, .ref x0), (1, .int x1), (2, .int x2), (4, .int x4)]) dX5_placesWith_51 rfl (Nat.le_of_ble_eq_true rfl) rfl ?_
      refine aw_iinc 4 (v := x4 + 1) (lv' := [(4, .int (x4 + 1)), (3, .int v15), (0, .ref x0), (1, .int x1), (2, .int x2)]) dX5_placesWith_52 rfl rfl (Nat.le_of_ble_eq_true rfl) rfl ?_
      refine aw_goto 5 dX5_placesWith_55 (by decide) ?_
      refine aw_sub [2, 3, 4, 1, 0] rfl ?_
      exact hv hc9 hs9
    refine aw_if_eq 49 dX5_placesWith_39 (by decide) (fun c14 => ?_) (fun c14 => ?_)
    · have J9 := aw_ifT c14 J9
      refine aw_iconst (v := 0) dX5_placesWith_49 (by decide) ?_
      exact J9
    · have J9 := aw_ifF c14 J9
      refine aw_iconst (v := 1) dX5_placesWith_42 (by decide) ?_
      refine aw_iload 4 dX5_placesWith_43 rfl ?_
      refine aw_ishl dX5_placesWith_45 ?_
      refine aw_goto 50 dX5_placesWith_46 (by decide) ?_
      exact J9
def V_X5_placesWith_0 (l : Launch) (G : aG) (d mc ms : Nat) (P : aR → aH → Prop) (x0 : Nat) (x1 : Int32) (x2 : Int32) (h : aH) : Prop :=
  T_X5_placesWith_5 l G d mc ms P x0 x1 x2 0 0 h 0 0
set_option maxHeartbeats 4000000 in
theorem A_X5_placesWith {l : Launch} {G : aG} {d mc ms : Nat} {P : aR → aH → Prop} {x0 : Nat} {x1 : Int32} {x2 : Int32} {h : aH} (hl : l.stackTraces = false) (hv : V_X5_placesWith_0 l G d mc ms P x0 x1 x2 h) : aC l G mX5_placesWith (wsN mX5_placesWith) d mc ms [.ref x0, .int x1, .int x2] h P := by
  refine aC_ofF (M := mX5_placesWith) rfl pX5_placesWith (Nat.le_of_ble_eq_true rfl) hl ?_
  refine aw_eqv (lv2 := [(0, .ref x0), (1, .int x1), (2, .int x2)]) rfl rfl rfl rfl ?_
  unfold V_X5_placesWith_0 at hv
  refine aw_iconst (v := 0) dX5_placesWith_0 (by decide) ?_
  refine aw_istore_n (lv' := [(3, .int 0), (0, .ref x0), (1, .int x1), (2, .int x2)]) dX5_placesWith_1 rfl (Nat.le_of_ble_eq_true rfl) rfl ?_
  refine aw_iconst (v := 0) dX5_placesWith_2 (by decide) ?_
  refine aw_istore (lv' := [(4, .int 0), (3, .int 0), (0, .ref x0), (1, .int x1), (2, .int x2)]) dX5_placesWith_3 (Nat.le_of_ble_eq_true rfl) rfl ?_
  refine aw_sub [2, 3, 4, 1, 0] rfl ?_
  exact hv (Nat.zero_le _) (Nat.zero_le _)
def T_X5_hasOther_16 (l : Launch) (G : aG) (d mc ms : Nat) (P : aR → aH → Prop) (x0 : Nat) (x1 : Int32) (x3 : Int32) (x4 : Int32) (x5 : Int32) (x6 : Int32) (h : aH) (c s : Nat) : Prop := c ≤ mc → s ≤ ms → AW l G mX5_hasOther d mc ms P 16 [(0, .ref x0), (1, .int x1), (3, .int x3), (4, .int x4), (5, .int x5), (6, .int x6)] [] h c s
def V_X5_hasOther_16 (l : Launch) (G : aG) (d mc ms : Nat) (P : aR → aH → Prop) (x0 : Nat) (x1 : Int32) (x3 : Int32) (x4 : Int32) (x5 : Int32) (x6 : Int32) (h : aH) (c s : Nat) : Prop :=
  vR h x0 5 0 fun a1 =>
  vI h a1 3 5 fun y2 =>
  (y2 ≤ x6 → 
    vB x5 ∧ P (.inl (some (.int x5))) h
    ) ∧ (¬ y2 ≤ x6 → 
    (x6 = x3 → 
      T_X5_hasOther_16 l G d mc ms P x0 x1 x3 x4 (x5 ||| (0 : Int32)) (x6 + 1) h c s
      ) ∧ (¬ x6 = x3 → 
      vIs h x0 5 (
      vC l G mX5_placesWith (wsN mX5_placesWith) d mc ms [.ref x0, .int x1, .int x6] h c s (xP P) (kI fun y6 h7 c8 s9 => 
      ∀ v11 : Int32, v11 = (x5 ||| (if y6 = x4 then (1 : Int32) else 0)) →
      T_X5_hasOther_16 l G d mc ms P x0 x1 x3 x4 v11 (x6 + 1) h7 c8 s9))
      )
    )
set_option maxHeartbeats 4000000 in
theorem A_X5_hasOther_16 {l : Launch} {G : aG} {d mc ms : Nat} {P : aR → aH → Prop} {x0 : Nat} {x1 : Int32} {x3 : Int32} {x4 : Int32} {x5 : Int32} {x6 : Int32} {h : aH} {c s : Nat} (hl : l.stackTraces = false) (hv : V_X5_hasOther_16 l G d mc ms P x0 x1 x3 x4 x5 x6 h c s) : T_X5_hasOther_16 l G d mc ms P x0 x1 x3 x4 x5 x6 h c s := by
  intro hc hs
  unfold V_X5_hasOther_16 at hv
  refine aw_iload 5 dX5_hasOther_16 rfl ?_
  refine aw_aload_n 0 (x := x0) dX5_hasOther_18 rfl rfl ?_
  obtain ⟨fs, a1, he, hx, hv⟩ := hv
  refine aw_get (v := .ref a1) he rfl in_X5 0 (by decide) q376 (Or.inl rfl) hx dX5_hasOther_19 ?_
  obtain ⟨fs, y2, he, hx, hv⟩ := hv
  refine aw_getN (v := .int y2) he rfl in_X3 5 (by decide) q333 (Or.inl rfl) hx dX5_hasOther_22 ?_
  refine aw_icmp_ge 62 dX5_hasOther_25 (by decide) (fun c3 => ?_) (fun c3 => ?_)
  · have hv := hv.1 c3
    refine aw_iload 4 dX5_hasOther_62 rfl ?_
    obtain ⟨z4, hv⟩ := hv
    exact aw_zret rfl z4.nar dX5_hasOther_64 hv hc hs
  · have hv := hv.2 c3
    refine aw_iload 4 dX5_hasOther_28 rfl ?_
    refine aw_iload 5 dX5_hasOther_30 rfl ?_
    refine aw_iload_n 2 dX5_hasOther_32 rfl rfl ?_
    refine aw_icmp_eq 52 dX5_hasOther_33 (by decide) (fun c5 => ?_) (fun c5 => ?_)
    · have hv := hv.1 c5
      refine aw_iconst (v := 0) dX5_hasOther_52 (by decide) ?_
      refine aw_ior dX5_hasOther_53 ?_
      refine aw_istore (lv' := [(5, .int (x5 ||| (0 : Int32))), (0, .ref x0), (1, .int x1), (3, .int x3), (4, .int x4), (6, .int x6)]) dX5_hasOther_54 (Nat.le_of_ble_eq_true rfl) rfl ?_
      refine aw_iinc 5 (v := x6 + 1) (lv' := [(6, .int (x6 + 1)), (5, .int (x5 ||| (0 : Int32))), (0, .ref x0), (1, .int x1), (3, .int x3), (4, .int x4)]) dX5_hasOther_56 rfl rfl (Nat.le_of_ble_eq_true rfl) rfl ?_
      refine aw_goto 16 dX5_hasOther_59 (by decide) ?_
      refine aw_sub [2, 3, 4, 5, 1, 0] rfl ?_
      exact hv hc hs
    · have hv := hv.2 c5
      refine aw_aload_n 0 (x := x0) dX5_hasOther_36 rfl rfl ?_
      refine aw_iload_n 1 dX5_hasOther_37 rfl rfl ?_
      refine aw_iload 5 dX5_hasOther_38 rfl ?_
      obtain ⟨⟨fs, he⟩, hv⟩ := hv
      obtain ⟨d2, mc2, ms2, Q, hM, hd9, hc9, hs9, hv, hx⟩ := hv
      refine aw_callV (rest := [.int x5]) hM he rfl rfl nX5_placesWith q738 q740 qs22 q132 q741 dX5_hasOther_40 rfl hd9 (by decide) (Nat.le_of_ble_eq_true rfl) hc9 hs9 ?_ ?_
      rotate_left
      · exact fun E h2 q => aX_out (hx E h2 q) rfl hc9 hs9
      intro v9 h7 hq
      have hv := hv v9 h7 hq
      obtain ⟨y6, rfl, hv⟩ := hv
      refine aw_eqv (pc2 := 43) (st2 := [.int y6, .int x5]) rfl rfl rfl rfl ?_
      revert hv hc9 hs9; generalize c + mc2 = c8; generalize s + ms2 = s9; intro hc9 hs9 hv
      refine aw_iload 3 dX5_hasOther_43 rfl ?_
      have J9 : AW l G mX5_hasOther d mc ms P 53 [(0, .ref x0), (1, .int x1), (3, .int x3), (4, .int x4), (5, .int x5), (6, .int x6)] [.int (if y6 = x4 then (1 : Int32) else 0), .int x5] h7 c8 s9 := by
        refine aw_ior dX5_hasOther_53 ?_
        refine aw_topi (fun v11 ev11 => ?_)
        have hv := hv v11 ev11
        refine aw_istore (lv' := [(5, .int v11), (0, .ref x0), (1, .int x1), (3, .int x3), (4, .int x4), (6, .int x6)]) dX5_hasOther_54 (Nat.le_of_ble_eq_true rfl) rfl ?_
        refine aw_iinc 5 (v := x6 + 1) (lv' := [(6, .int (x6 + 1)), (5, .int v11), (0, .ref x0), (1, .int x1), (3, .int x3), (4, .int x4)]) dX5_hasOther_56 rfl rfl (Nat.le_of_ble_eq_true rfl) rfl ?_
        refine aw_goto 16 dX5_hasOther_59 (by decide) ?_
        refine aw_sub [2, 3, 4, 5, 1, 0] rfl ?_
        exact hv hc9 hs9
      refine aw_icmp_ne 52 dX5_hasOther_45 (by decide) (fun c10 => ?_) (fun c10 => ?_)
      · have J9 := aw_ifF c10 J9
        refine aw_iconst (v := 0) dX5_hasOther_52 (by decide) ?_
        exact J9
      · have J9 := aw_ifT c10 J9
        refine aw_iconst (v := 1) dX5_hasOther_48 (by decide) ?_
        refine aw_goto 53 dX5_hasOther_49 (by decide) ?_
        exact J9
def V_X5_hasOther_0 (l : Launch) (G : aG) (d mc ms : Nat) (P : aR → aH → Prop) (x0 : Nat) (x1 : Int32) (x2 : Int32) (x3 : Int32) (h : aH) : Prop :=
  vIs h x0 5 (
  vC l G mX5_placeIn (wsN mX5_placeIn) d mc ms [.ref x0, .int x1, .int x2] h 0 0 (xP P) (kI fun y12 h13 c14 s15 => 
  T_X5_hasOther_16 l G d mc ms P x0 x1 x3 ((1 : Int32) <<< (y12 &&& 31)) 0 0 h13 c14 s15))
set_option maxHeartbeats 4000000 in
theorem A_X5_hasOther {l : Launch} {G : aG} {d mc ms : Nat} {P : aR → aH → Prop} {x0 : Nat} {x1 : Int32} {x2 : Int32} {x3 : Int32} {h : aH} (hl : l.stackTraces = false) (hv : V_X5_hasOther_0 l G d mc ms P x0 x1 x2 x3 h) : aC l G mX5_hasOther (wsN mX5_hasOther) d mc ms [.ref x0, .int x1, .int x2, .int x3] h P := by
  refine aC_ofF (M := mX5_hasOther) rfl pX5_hasOther (Nat.le_of_ble_eq_true rfl) hl ?_
  refine aw_eqv (lv2 := [(0, .ref x0), (1, .int x1), (2, .int x2), (3, .int x3)]) rfl rfl rfl rfl ?_
  unfold V_X5_hasOther_0 at hv
  refine aw_iconst (v := 1) dX5_hasOther_0 (by decide) ?_
  refine aw_aload_n 0 (x := x0) dX5_hasOther_1 rfl rfl ?_
  refine aw_iload_n 1 dX5_hasOther_2 rfl rfl ?_
  refine aw_iload_n 2 dX5_hasOther_3 rfl rfl ?_
  obtain ⟨⟨fs, he⟩, hv⟩ := hv
  obtain ⟨d2, mc2, ms2, Q, hM, hd9, hc9, hs9, hv, hx⟩ := hv
  refine aw_callV (rest := [.int 1]) hM he rfl rfl nX5_placeIn q734 q736 qs21 q132 q737 dX5_hasOther_4 rfl hd9 (by decide) (Nat.le_of_ble_eq_true rfl) hc9 hs9 ?_ ?_
  rotate_left
  · exact fun E h2 q => aX_out (hx E h2 q) rfl hc9 hs9
  intro v9 h13 hq
  have hv := hv v9 h13 hq
  obtain ⟨y12, rfl, hv⟩ := hv
  refine aw_eqv (pc2 := 7) (st2 := [.int y12, .int 1]) rfl rfl rfl rfl ?_
  revert hv hc9 hs9; generalize 0 + mc2 = c14; generalize 0 + ms2 = s15; intro hc9 hs9 hv
  refine aw_ishl dX5_hasOther_7 ?_
  refine aw_istore (lv' := [(4, .int ((1 : Int32) <<< (y12 &&& 31))), (0, .ref x0), (1, .int x1), (2, .int x2), (3, .int x3)]) dX5_hasOther_8 (Nat.le_of_ble_eq_true rfl) rfl ?_
  refine aw_iconst (v := 0) dX5_hasOther_10 (by decide) ?_
  refine aw_istore (lv' := [(5, .int 0), (4, .int ((1 : Int32) <<< (y12 &&& 31))), (0, .ref x0), (1, .int x1), (2, .int x2), (3, .int x3)]) dX5_hasOther_11 (Nat.le_of_ble_eq_true rfl) rfl ?_
  refine aw_iconst (v := 0) dX5_hasOther_13 (by decide) ?_
  refine aw_istore (lv' := [(6, .int 0), (5, .int 0), (4, .int ((1 : Int32) <<< (y12 &&& 31))), (0, .ref x0), (1, .int x1), (2, .int x2), (3, .int x3)]) dX5_hasOther_14 (Nat.le_of_ble_eq_true rfl) rfl ?_
  refine aw_sub [3, 4, 6, 2, 1, 0] rfl ?_
  exact hv hc9 hs9
def V_X5_isByGaps_0 (l : Launch) (G : aG) (d mc ms : Nat) (P : aR → aH → Prop) (x0 : Nat) (x1 : Int32) (x2 : Int32) (x3 : Int32) (h : aH) : Prop :=
  vR h x0 5 0 fun a1 =>
  vI h a1 3 5 fun y2 =>
  (¬ x3 = y2 → 
    vR h x0 5 0 fun a4 =>
    vI h a4 3 5 fun y5 =>
    vIs h x0 5 (
    vC l G mX5_placesWith (wsN mX5_placesWith) d mc ms [.ref x0, .int x1, .int y5] h 0 0 (xP P) (kI fun y6 h7 c8 s9 => 
    vIs h7 x0 5 (
    vC l G mX5_placeIn (wsN mX5_placeIn) d mc ms [.ref x0, .int x1, .int x2] h7 c8 s9 (xP P) (kI fun y10 h11 c12 s13 => 
    vC l G mX1_has (wsN mX1_has) d mc ms [.int y6, .int y10] h11 c12 s13 (xP P) (kI fun y14 h15 c16 s17 => 
    (y14 = 0 → 
      P (.inl (some (.int 0))) h15
      ) ∧ (¬ y14 = 0 → 
      vC l G mJ6_bitCount (wsN mJ6_bitCount) d mc ms [.int y6] h15 c16 s17 (xP P) (kI fun y19 h20 c21 s22 => 
      vR h20 x0 5 0 fun a23 =>
      vIs h20 a23 3 (
      vC l G mX3_gaps (wsN mX3_gaps) d mc ms [.ref a23] h20 c21 s22 (xP P) (kI fun y24 h25 c26 s27 => 
      vB (if y19 = y24 then (1 : Int32) else 0) ∧ P (.inl (some (.int (if y19 = y24 then (1 : Int32) else 0)))) h25)))
      ))))))
    ) ∧ (x3 = y2 → 
    vIs h x0 5 (
    vC l G mX5_settledWith (wsN mX5_settledWith) d mc ms [.ref x0, .int x1, .int x3, .int x2] h 0 0 (xP P) (kI fun y30 h31 c32 s33 => 
    vC l G mJ6_bitCount (wsN mJ6_bitCount) d mc ms [.int y30] h31 c32 s33 (xP P) (kI fun y34 h35 c36 s37 => 
    vR h35 x0 5 0 fun a38 =>
    vIs h35 a38 3 (
    vC l G mX3_gaps (wsN mX3_gaps) d mc ms [.ref a38] h35 c36 s37 (xP P) (kI fun y39 h40 c41 s42 => 
    vB (if y34 = y39 then (1 : Int32) else 0) ∧ P (.inl (some (.int (if y34 = y39 then (1 : Int32) else 0)))) h40)))))
    )
set_option maxHeartbeats 4000000 in
theorem A_X5_isByGaps {l : Launch} {G : aG} {d mc ms : Nat} {P : aR → aH → Prop} {x0 : Nat} {x1 : Int32} {x2 : Int32} {x3 : Int32} {h : aH} (hl : l.stackTraces = false) (hv : V_X5_isByGaps_0 l G d mc ms P x0 x1 x2 x3 h) : aC l G mX5_isByGaps (wsN mX5_isByGaps) d mc ms [.ref x0, .int x1, .int x2, .int x3] h P := by
  refine aC_ofF (M := mX5_isByGaps) rfl pX5_isByGaps (Nat.le_of_ble_eq_true rfl) hl ?_
  refine aw_eqv (lv2 := [(0, .ref x0), (1, .int x1), (2, .int x2), (3, .int x3)]) rfl rfl rfl rfl ?_
  unfold V_X5_isByGaps_0 at hv
  refine aw_iload_n 3 dX5_isByGaps_0 rfl rfl ?_
  refine aw_aload_n 0 (x := x0) dX5_isByGaps_1 rfl rfl ?_
  obtain ⟨fs, a1, he, hx, hv⟩ := hv
  refine aw_get (v := .ref a1) he rfl in_X5 0 (by decide) q376 (Or.inl rfl) hx dX5_isByGaps_2 ?_
  obtain ⟨fs, y2, he, hx, hv⟩ := hv
  refine aw_getN (v := .int y2) he rfl in_X3 5 (by decide) q333 (Or.inl rfl) hx dX5_isByGaps_5 ?_
  refine aw_icmp_ne 37 dX5_isByGaps_8 (by decide) (fun c3 => ?_) (fun c3 => ?_)
  · have hv := hv.1 c3
    refine aw_aload_n 0 (x := x0) dX5_isByGaps_37 rfl rfl ?_
    refine aw_iload_n 1 dX5_isByGaps_38 rfl rfl ?_
    refine aw_aload_n 0 (x := x0) dX5_isByGaps_39 rfl rfl ?_
    obtain ⟨fs, a4, he, hx, hv⟩ := hv
    refine aw_get (v := .ref a4) he rfl in_X5 0 (by decide) q376 (Or.inl rfl) hx dX5_isByGaps_40 ?_
    obtain ⟨fs, y5, he, hx, hv⟩ := hv
    refine aw_getN (v := .int y5) he rfl in_X3 5 (by decide) q333 (Or.inl rfl) hx dX5_isByGaps_43 ?_
    obtain ⟨⟨fs, he⟩, hv⟩ := hv
    obtain ⟨d2, mc2, ms2, Q, hM, hd9, hc9, hs9, hv, hx⟩ := hv
    refine aw_callV (rest := []) hM he rfl rfl nX5_placesWith q738 q740 qs22 q132 q741 dX5_isByGaps_46 rfl hd9 (by decide) (Nat.le_of_ble_eq_true rfl) hc9 hs9 ?_ ?_
    rotate_left
    · exact fun E h2 q => aX_out (hx E h2 q) rfl hc9 hs9
    intro v9 h7 hq
    have hv := hv v9 h7 hq
    obtain ⟨y6, rfl, hv⟩ := hv
    refine aw_eqv (pc2 := 49) (st2 := [.int y6]) rfl rfl rfl rfl ?_
    revert hv hc9 hs9; generalize 0 + mc2 = c8; generalize 0 + ms2 = s9; intro hc9 hs9 hv
    refine aw_istore (lv' := [(4, .int y6), (0, .ref x0), (1, .int x1), (2, .int x2), (3, .int x3)]) dX5_isByGaps_49 (Nat.le_of_ble_eq_true rfl) rfl ?_
    refine aw_iload 0 dX5_isByGaps_51 rfl ?_
    refine aw_aload_n 1 (x := x0) dX5_isByGaps_53 rfl rfl ?_
    refine aw_iload_n 2 dX5_isByGaps_54 rfl rfl ?_
    refine aw_iload_n 3 dX5_isByGaps_55 rfl rfl ?_
    obtain ⟨⟨fs, he⟩, hv⟩ := hv
    obtain ⟨d2, mc2, ms2, Q, hM, hd9, hc9, hs9, hv, hx⟩ := hv
    refine aw_callV (rest := [.int y6]) hM he rfl rfl nX5_placeIn q734 q736 qs21 q132 q737 dX5_isByGaps_56 rfl hd9 (by decide) (Nat.le_of_ble_eq_true rfl) hc9 hs9 ?_ ?_
    rotate_left
    · exact fun E h2 q => aX_out (hx E h2 q) rfl hc9 hs9
    intro v9 h11 hq
    have hv := hv v9 h11 hq
    obtain ⟨y10, rfl, hv⟩ := hv
    refine aw_eqv (pc2 := 59) (st2 := [.int y10, .int y6]) rfl rfl rfl rfl ?_
    revert hv hc9 hs9; generalize c8 + mc2 = c12; generalize s9 + ms2 = s13; intro hc9 hs9 hv
    obtain ⟨d2, mc2, ms2, Q, hM, hd9, hc9, hs9, hv, hx⟩ := hv
    refine aw_callSN (rest := []) hM nX1_has q655 q298 q119 q299 dX5_isByGaps_59 rfl hd9 (by decide) (Nat.le_of_ble_eq_true rfl) hc9 hs9 ?_ ?_
    rotate_left
    · exact fun E h2 q => aX_out (hx E h2 q) rfl hc9 hs9
    intro v9 h15 hq
    have hv := hv v9 h15 hq
    obtain ⟨y14, rfl, hv⟩ := hv
    refine aw_eqv (pc2 := 62) (st2 := [.int y14]) rfl rfl rfl rfl ?_
    revert hv hc9 hs9; generalize c12 + mc2 = c16; generalize s13 + ms2 = s17; intro hc9 hs9 hv
    refine aw_if_eq 84 dX5_isByGaps_62 (by decide) (fun c18 => ?_) (fun c18 => ?_)
    · have hv := hv.1 c18
      refine aw_iconst (v := 0) dX5_isByGaps_84 (by decide) ?_
      exact aw_zret rfl rfl dX5_isByGaps_85 hv hc9 hs9
    · have hv := hv.2 c18
      refine aw_iload 0 dX5_isByGaps_65 rfl ?_
      obtain ⟨d2, mc2, ms2, Q, hM, hd9, hc9, hs9, hv, hx⟩ := hv
      refine aw_callS (rest := []) hM nJ6_bitCount q746 q292 q131 q293 dX5_isByGaps_67 rfl hd9 (by decide) (Nat.le_of_ble_eq_true rfl) hc9 hs9 ?_ ?_
      rotate_left
      · exact fun E h2 q => aX_out (hx E h2 q) rfl hc9 hs9
      intro v9 h20 hq
      have hv := hv v9 h20 hq
      obtain ⟨y19, rfl, hv⟩ := hv
      refine aw_eqv (pc2 := 70) (st2 := [.int y19]) rfl rfl rfl rfl ?_
      revert hv hc9 hs9; generalize c16 + mc2 = c21; generalize s17 + ms2 = s22; intro hc9 hs9 hv
      refine aw_aload_n 1 (x := x0) dX5_isByGaps_70 rfl rfl ?_
      obtain ⟨fs, a23, he, hx, hv⟩ := hv
      refine aw_get (v := .ref a23) he rfl in_X5 0 (by decide) q376 (Or.inl rfl) hx dX5_isByGaps_71 ?_
      obtain ⟨⟨fs, he⟩, hv⟩ := hv
      obtain ⟨d2, mc2, ms2, Q, hM, hd9, hc9, hs9, hv, hx⟩ := hv
      refine aw_callV (rest := [.int y19]) hM he rfl rfl nX3_gaps q747 q748 q749 q121 q750 dX5_isByGaps_74 rfl hd9 (by decide) (Nat.le_of_ble_eq_true rfl) hc9 hs9 ?_ ?_
      rotate_left
      · exact fun E h2 q => aX_out (hx E h2 q) rfl hc9 hs9
      intro v9 h25 hq
      have hv := hv v9 h25 hq
      obtain ⟨y24, rfl, hv⟩ := hv
      refine aw_eqv (pc2 := 77) (st2 := [.int y24, .int y19]) rfl rfl rfl rfl ?_
      revert hv hc9 hs9; generalize c21 + mc2 = c26; generalize s22 + ms2 = s27; intro hc9 hs9 hv
      have J9 : AW l G mX5_isByGaps d mc ms P 85 [(4, .int y6), (0, .ref x0), (1, .int x1), (2, .int x2), (3, .int x3)] [.int (if y19 = y24 then (1 : Int32) else 0)] h25 c26 s27 := by
        obtain ⟨z29, hv⟩ := hv
        exact aw_zret rfl z29.nar dX5_isByGaps_85 hv hc9 hs9
      refine aw_icmp_ne 84 dX5_isByGaps_77 (by decide) (fun c28 => ?_) (fun c28 => ?_)
      · have J9 := aw_ifF c28 J9
        refine aw_iconst (v := 0) dX5_isByGaps_84 (by decide) ?_
        exact J9
      · have J9 := aw_ifT c28 J9
        refine aw_iconst (v := 1) dX5_isByGaps_80 (by decide) ?_
        refine aw_goto 85 dX5_isByGaps_81 (by decide) ?_
        exact J9
  · have hv := hv.2 c3
    refine aw_aload_n 0 (x := x0) dX5_isByGaps_11 rfl rfl ?_
    refine aw_iload_n 1 dX5_isByGaps_12 rfl rfl ?_
    refine aw_iload_n 3 dX5_isByGaps_13 rfl rfl ?_
    refine aw_iload_n 2 dX5_isByGaps_14 rfl rfl ?_
    obtain ⟨⟨fs, he⟩, hv⟩ := hv
    obtain ⟨d2, mc2, ms2, Q, hM, hd9, hc9, hs9, hv, hx⟩ := hv
    refine aw_callV (rest := []) hM he rfl rfl nX5_settledWith q726 q728 qs19 q132 q729 dX5_isByGaps_15 rfl hd9 (by decide) (Nat.le_of_ble_eq_true rfl) hc9 hs9 ?_ ?_
    rotate_left
    · exact fun E h2 q => aX_out (hx E h2 q) rfl hc9 hs9
    intro v9 h31 hq
    have hv := hv v9 h31 hq
    obtain ⟨y30, rfl, hv⟩ := hv
    refine aw_eqv (pc2 := 18) (st2 := [.int y30]) rfl rfl rfl rfl ?_
    revert hv hc9 hs9; generalize 0 + mc2 = c32; generalize 0 + ms2 = s33; intro hc9 hs9 hv
    obtain ⟨d2, mc2, ms2, Q, hM, hd9, hc9, hs9, hv, hx⟩ := hv
    refine aw_callS (rest := []) hM nJ6_bitCount q746 q292 q131 q293 dX5_isByGaps_18 rfl hd9 (by decide) (Nat.le_of_ble_eq_true rfl) hc9 hs9 ?_ ?_
    rotate_left
    · exact fun E h2 q => aX_out (hx E h2 q) rfl hc9 hs9
    intro v9 h35 hq
    have hv := hv v9 h35 hq
    obtain ⟨y34, rfl, hv⟩ := hv
    refine aw_eqv (pc2 := 21) (st2 := [.int y34]) rfl rfl rfl rfl ?_
    revert hv hc9 hs9; generalize c32 + mc2 = c36; generalize s33 + ms2 = s37; intro hc9 hs9 hv
    refine aw_aload_n 0 (x := x0) dX5_isByGaps_21 rfl rfl ?_
    obtain ⟨fs, a38, he, hx, hv⟩ := hv
    refine aw_get (v := .ref a38) he rfl in_X5 0 (by decide) q376 (Or.inl rfl) hx dX5_isByGaps_22 ?_
    obtain ⟨⟨fs, he⟩, hv⟩ := hv
    obtain ⟨d2, mc2, ms2, Q, hM, hd9, hc9, hs9, hv, hx⟩ := hv
    refine aw_callV (rest := [.int y34]) hM he rfl rfl nX3_gaps q747 q748 q749 q121 q750 dX5_isByGaps_25 rfl hd9 (by decide) (Nat.le_of_ble_eq_true rfl) hc9 hs9 ?_ ?_
    rotate_left
    · exact fun E h2 q => aX_out (hx E h2 q) rfl hc9 hs9
    intro v9 h40 hq
    have hv := hv v9 h40 hq
    obtain ⟨y39, rfl, hv⟩ := hv
    refine aw_eqv (pc2 := 28) (st2 := [.int y39, .int y34]) rfl rfl rfl rfl ?_
    revert hv hc9 hs9; generalize c36 + mc2 = c41; generalize s37 + ms2 = s42; intro hc9 hs9 hv
    have J9 : AW l G mX5_isByGaps d mc ms P 36 [(0, .ref x0), (1, .int x1), (2, .int x2), (3, .int x3)] [.int (if y34 = y39 then (1 : Int32) else 0)] h40 c41 s42 := by
      obtain ⟨z44, hv⟩ := hv
      exact aw_zret rfl z44.nar dX5_isByGaps_36 hv hc9 hs9
    refine aw_icmp_ne 35 dX5_isByGaps_28 (by decide) (fun c43 => ?_) (fun c43 => ?_)
    · have J9 := aw_ifF c43 J9
      refine aw_iconst (v := 0) dX5_isByGaps_35 (by decide) ?_
      exact J9
    · have J9 := aw_ifT c43 J9
      refine aw_iconst (v := 1) dX5_isByGaps_31 (by decide) ?_
      refine aw_goto 36 dX5_isByGaps_32 (by decide) ?_
      exact J9
def T_X5_isInPair_14 (l : Launch) (G : aG) (d mc ms : Nat) (P : aR → aH → Prop) (x0 : Nat) (x1 : Int32) (x3 : Int32) (x4 : Int32) (x5 : Int32) (x6 : Int32) (h : aH) (c s : Nat) : Prop := c ≤ mc → s ≤ ms → AW l G mX5_isInPair d mc ms P 14 [(0, .ref x0), (1, .int x1), (3, .int x3), (4, .int x4), (5, .int x5), (6, .int x6)] [] h c s
def T_X5_isInPair_41 (l : Launch) (G : aG) (d mc ms : Nat) (P : aR → aH → Prop) (x0 : Nat) (x1 : Int32) (x3 : Int32) (x4 : Int32) (x5 : Int32) (x6 : Int32) (x7 : Int32) (x8 : Int32) (h : aH) (c s : Nat) : Prop := c ≤ mc → s ≤ ms → AW l G mX5_isInPair d mc ms P 41 [(0, .ref x0), (1, .int x1), (3, .int x3), (4, .int x4), (5, .int x5), (6, .int x6), (7, .int x7), (8, .int x8)] [] h c s
def V_X5_isInPair_14 (l : Launch) (G : aG) (d mc ms : Nat) (P : aR → aH → Prop) (x0 : Nat) (x1 : Int32) (x3 : Int32) (x4 : Int32) (x5 : Int32) (x6 : Int32) (h : aH) (c s : Nat) : Prop :=
  vR h x0 5 0 fun a1 =>
  vI h a1 3 5 fun y2 =>
  (y2 ≤ x6 → 
    vB x5 ∧ P (.inl (some (.int x5))) h
    ) ∧ (¬ y2 ≤ x6 → 
    vIs h x0 5 (
    vC l G mX5_placesWith (wsN mX5_placesWith) d mc ms [.ref x0, .int x1, .int x6] h c s (xP P) (kI fun y5 h6 c7 s8 => 
    T_X5_isInPair_41 l G d mc ms P x0 x1 x3 x4 x5 x6 y5 (x6 + (1 : Int32)) h6 c7 s8))
    )
set_option maxHeartbeats 4000000 in
theorem A_X5_isInPair_14 {l : Launch} {G : aG} {d mc ms : Nat} {P : aR → aH → Prop} {x0 : Nat} {x1 : Int32} {x3 : Int32} {x4 : Int32} {x5 : Int32} {x6 : Int32} {h : aH} {c s : Nat} (hl : l.stackTraces = false) (hv : V_X5_isInPair_14 l G d mc ms P x0 x1 x3 x4 x5 x6 h c s) : T_X5_isInPair_14 l G d mc ms P x0 x1 x3 x4 x5 x6 h c s := by
  intro hc hs
  unfold V_X5_isInPair_14 at hv
  refine aw_iload 5 dX5_isInPair_14 rfl ?_
  refine aw_aload_n 0 (x := x0) dX5_isInPair_16 rfl rfl ?_
  obtain ⟨fs, a1, he, hx, hv⟩ := hv
  refine aw_get (v := .ref a1) he rfl in_X5 0 (by decide) q376 (Or.inl rfl) hx dX5_isInPair_17 ?_
  obtain ⟨fs, y2, he, hx, hv⟩ := hv
  refine aw_getN (v := .int y2) he rfl in_X3 5 (by decide) q333 (Or.inl rfl) hx dX5_isInPair_20 ?_
  refine aw_icmp_ge 130 dX5_isInPair_23 (by decide) (fun c3 => ?_) (fun c3 => ?_)
  · have hv := hv.1 c3
    refine aw_iload 4 dX5_isInPair_130 rfl ?_
    obtain ⟨z4, hv⟩ := hv
    exact aw_zret rfl z4.nar dX5_isInPair_132 hv hc hs
  · have hv := hv.2 c3
    refine aw_aload_n 0 (x := x0) dX5_isInPair_26 rfl rfl ?_
    refine aw_iload_n 1 dX5_isInPair_27 rfl rfl ?_
    refine aw_iload 5 dX5_isInPair_28 rfl ?_
    obtain ⟨⟨fs, he⟩, hv⟩ := hv
    obtain ⟨d2, mc2, ms2, Q, hM, hd9, hc9, hs9, hv, hx⟩ := hv
    refine aw_callV (rest := []) hM he rfl rfl nX5_placesWith q738 q740 qs22 q132 q741 dX5_isInPair_30 rfl hd9 (by decide) (Nat.le_of_ble_eq_true rfl) hc9 hs9 ?_ ?_
    rotate_left
    · exact fun E h2 q => aX_out (hx E h2 q) rfl hc9 hs9
    intro v9 h6 hq
    have hv := hv v9 h6 hq
    obtain ⟨y5, rfl, hv⟩ := hv
    refine aw_eqv (pc2 := 33) (st2 := [.int y5]) rfl rfl rfl rfl ?_
    revert hv hc9 hs9; generalize c + mc2 = c7; generalize s + ms2 = s8; intro hc9 hs9 hv
    refine aw_istore (lv' := [(7, .int y5), (0, .ref x0), (1, .int x1), (3, .int x3), (4, .int x4), (5, .int x5), (6, .int x6)]) dX5_isInPair_33 (Nat.le_of_ble_eq_true rfl) rfl ?_
    refine aw_iload 6 dX5_isInPair_35 rfl ?_
    refine aw_iconst (v := 1) dX5_isInPair_37 (by decide) ?_
    refine aw_iadd dX5_isInPair_38 ?_
    refine aw_istore (lv' := [(8, .int (x6 + (1 : Int32))), (7, .int y5), (0, .ref x0), (1, .int x1), (3, .int x3), (4, .int x4), (5, .int x5), (6, .int x6)]) dX5_isInPair_39 (Nat.le_of_ble_eq_true rfl) rfl ?_
    refine aw_sub [2, 3, 4, 5, 6, 7, 1, 0] rfl ?_
    exact hv hc9 hs9
def V_X5_isInPair_41 (l : Launch) (G : aG) (d mc ms : Nat) (P : aR → aH → Prop) (x0 : Nat) (x1 : Int32) (x3 : Int32) (x4 : Int32) (x5 : Int32) (x6 : Int32) (x7 : Int32) (x8 : Int32) (h : aH) (c s : Nat) : Prop :=
  vR h x0 5 0 fun a9 =>
  vI h a9 3 5 fun y10 =>
  (y10 ≤ x8 → 
    T_X5_isInPair_14 l G d mc ms P x0 x1 x3 x4 x5 (x6 + 1) h c s
    ) ∧ (¬ y10 ≤ x8 → 
    vC l G mX1_has (wsN mX1_has) d mc ms [.int x7, .int x4] h c s (xP P) (kI fun y12 h13 c14 s15 => 
    (y12 = 0 → 
      T_X5_isInPair_14 l G d mc ms P x0 x1 x3 x4 x5 (x6 + 1) h13 c14 s15
      ) ∧ (¬ y12 = 0 → 
      vIs h13 x0 5 (
      vC l G mX5_placesWith (wsN mX5_placesWith) d mc ms [.ref x0, .int x1, .int x8] h13 c14 s15 (xP P) (kI fun y17 h18 c19 s20 => 
      (¬ x7 = y17 → 
        T_X5_isInPair_41 l G d mc ms P x0 x1 x3 x4 (x5 ||| (0 : Int32)) x6 x7 (x8 + 1) h18 c19 s20
        ) ∧ (x7 = y17 → 
        vC l G mJ6_bitCount (wsN mJ6_bitCount) d mc ms [.int x7] h18 c19 s20 (xP P) (kI fun y23 h24 c25 s26 => 
        ∀ v31 : Int32, v31 = (x5 ||| (if (if y23 = 2 then (1 : Int32) else 0) = 0 then (0 : Int32) else if x3 = x6 then (0 : Int32) else if x3 = x8 then (0 : Int32) else 1)) →
        T_X5_isInPair_41 l G d mc ms P x0 x1 x3 x4 v31 x6 x7 (x8 + 1) h24 c25 s26)
        )))
      ))
    )
set_option maxHeartbeats 4000000 in
theorem A_X5_isInPair_41 {l : Launch} {G : aG} {d mc ms : Nat} {P : aR → aH → Prop} {x0 : Nat} {x1 : Int32} {x3 : Int32} {x4 : Int32} {x5 : Int32} {x6 : Int32} {x7 : Int32} {x8 : Int32} {h : aH} {c s : Nat} (hl : l.stackTraces = false) (hv : V_X5_isInPair_41 l G d mc ms P x0 x1 x3 x4 x5 x6 x7 x8 h c s) : T_X5_isInPair_41 l G d mc ms P x0 x1 x3 x4 x5 x6 x7 x8 h c s := by
  intro hc hs
  unfold V_X5_isInPair_41 at hv
  refine aw_iload 7 dX5_isInPair_41 rfl ?_
  refine aw_aload_n 0 (x := x0) dX5_isInPair_43 rfl rfl ?_
  obtain ⟨fs, a9, he, hx, hv⟩ := hv
  refine aw_get (v := .ref a9) he rfl in_X5 0 (by decide) q376 (Or.inl rfl) hx dX5_isInPair_44 ?_
  obtain ⟨fs, y10, he, hx, hv⟩ := hv
  refine aw_getN (v := .int y10) he rfl in_X3 5 (by decide) q333 (Or.inl rfl) hx dX5_isInPair_47 ?_
  refine aw_icmp_ge 124 dX5_isInPair_50 (by decide) (fun c11 => ?_) (fun c11 => ?_)
  · have hv := hv.1 c11
    refine aw_iinc 5 (v := x6 + 1) (lv' := [(6, .int (x6 + 1)), (0, .ref x0), (1, .int x1), (3, .int x3), (4, .int x4), (5, .int x5), (7, .int x7), (8, .int x8)]) dX5_isInPair_124 rfl rfl (Nat.le_of_ble_eq_true rfl) rfl ?_
    refine aw_goto 14 dX5_isInPair_127 (by decide) ?_
    refine aw_sub [1, 2, 3, 4, 5, 0] rfl ?_
    exact hv hc hs
  · have hv := hv.2 c11
    refine aw_iload 6 dX5_isInPair_53 rfl ?_
    refine aw_iload 3 dX5_isInPair_55 rfl ?_
    obtain ⟨d2, mc2, ms2, Q, hM, hd9, hc9, hs9, hv, hx⟩ := hv
    refine aw_callSN (rest := []) hM nX1_has q655 q298 q119 q299 dX5_isInPair_57 rfl hd9 (by decide) (Nat.le_of_ble_eq_true rfl) hc9 hs9 ?_ ?_
    rotate_left
    · exact fun E h2 q => aX_out (hx E h2 q) rfl hc9 hs9
    intro v9 h13 hq
    have hv := hv v9 h13 hq
    obtain ⟨y12, rfl, hv⟩ := hv
    refine aw_eqv (pc2 := 60) (st2 := [.int y12]) rfl rfl rfl rfl ?_
    revert hv hc9 hs9; generalize c + mc2 = c14; generalize s + ms2 = s15; intro hc9 hs9 hv
    refine aw_if_eq 124 dX5_isInPair_60 (by decide) (fun c16 => ?_) (fun c16 => ?_)
    · have hv := hv.1 c16
      refine aw_iinc 5 (v := x6 + 1) (lv' := [(6, .int (x6 + 1)), (0, .ref x0), (1, .int x1), (3, .int x3), (4, .int x4), (5, .int x5), (7, .int x7), (8, .int x8)]) dX5_isInPair_124 rfl rfl (Nat.le_of_ble_eq_true rfl) rfl ?_
      refine aw_goto 14 dX5_isInPair_127 (by decide) ?_
      refine aw_sub [1, 2, 3, 4, 5, 0] rfl ?_
      exact hv hc9 hs9
    · have hv := hv.2 c16
      refine aw_iload 6 dX5_isInPair_63 rfl ?_
      refine aw_aload_n 0 (x := x0) dX5_isInPair_65 rfl rfl ?_
      refine aw_iload_n 1 dX5_isInPair_66 rfl rfl ?_
      refine aw_iload 7 dX5_isInPair_67 rfl ?_
      obtain ⟨⟨fs, he⟩, hv⟩ := hv
      obtain ⟨d2, mc2, ms2, Q, hM, hd9, hc9, hs9, hv, hx⟩ := hv
      refine aw_callV (rest := [.int x7]) hM he rfl rfl nX5_placesWith q738 q740 qs22 q132 q741 dX5_isInPair_69 rfl hd9 (by decide) (Nat.le_of_ble_eq_true rfl) hc9 hs9 ?_ ?_
      rotate_left
      · exact fun E h2 q => aX_out (hx E h2 q) rfl hc9 hs9
      intro v9 h18 hq
      have hv := hv v9 h18 hq
      obtain ⟨y17, rfl, hv⟩ := hv
      refine aw_eqv (pc2 := 72) (st2 := [.int y17, .int x7]) rfl rfl rfl rfl ?_
      revert hv hc9 hs9; generalize c14 + mc2 = c19; generalize s15 + ms2 = s20; intro hc9 hs9 hv
      refine aw_icmp_ne 88 dX5_isInPair_72 (by decide) (fun c21 => ?_) (fun c21 => ?_)
      · have hv := hv.1 c21
        refine aw_iconst (v := 0) dX5_isInPair_88 (by decide) ?_
        refine aw_istore (lv' := [(9, .int 0), (0, .ref x0), (1, .int x1), (3, .int x3), (4, .int x4), (5, .int x5), (6, .int x6), (7, .int x7), (8, .int x8)]) dX5_isInPair_89 (Nat.le_of_ble_eq_true rfl) rfl ?_
        refine aw_iload 5 dX5_isInPair_91 rfl ?_
        refine aw_iload 0 dX5_isInPair_93 rfl ?_
        refine aw_if_eq 114 dX5_isInPair_95 (by decide) (fun c22 => ?_) (fun c22 => absurd c22 (by decide))
        refine aw_iconst (v := 0) dX5_isInPair_114 (by decide) ?_
        refine aw_ior dX5_isInPair_115 ?_
        refine aw_istore (lv' := [(5, .int (x5 ||| (0 : Int32))), (9, .int 0), (0, .ref x0), (1, .int x1), (3, .int x3), (4, .int x4), (6, .int x6), (7, .int x7), (8, .int x8)]) dX5_isInPair_116 (Nat.le_of_ble_eq_true rfl) rfl ?_
        refine aw_iinc 8 (v := x8 + 1) (lv' := [(8, .int (x8 + 1)), (5, .int (x5 ||| (0 : Int32))), (9, .int 0), (0, .ref x0), (1, .int x1), (3, .int x3), (4, .int x4), (6, .int x6), (7, .int x7)]) dX5_isInPair_118 rfl rfl (Nat.le_of_ble_eq_true rfl) rfl ?_
        refine aw_goto 41 dX5_isInPair_121 (by decide) ?_
        refine aw_sub [3, 4, 5, 6, 1, 7, 8, 0] rfl ?_
        exact hv hc9 hs9
      · have hv := hv.2 c21
        refine aw_iload 6 dX5_isInPair_75 rfl ?_
        obtain ⟨d2, mc2, ms2, Q, hM, hd9, hc9, hs9, hv, hx⟩ := hv
        refine aw_callS (rest := []) hM nJ6_bitCount q746 q292 q131 q293 dX5_isInPair_77 rfl hd9 (by decide) (Nat.le_of_ble_eq_true rfl) hc9 hs9 ?_ ?_
        rotate_left
        · exact fun E h2 q => aX_out (hx E h2 q) rfl hc9 hs9
        intro v9 h24 hq
        have hv := hv v9 h24 hq
        obtain ⟨y23, rfl, hv⟩ := hv
        refine aw_eqv (pc2 := 80) (st2 := [.int y23]) rfl rfl rfl rfl ?_
        revert hv hc9 hs9; generalize c19 + mc2 = c25; generalize s20 + ms2 = s26; intro hc9 hs9 hv
        refine aw_iconst (v := 2) dX5_isInPair_80 (by decide) ?_
        have J9 : AW l G mX5_isInPair d mc ms P 89 [(0, .ref x0), (1, .int x1), (3, .int x3), (4, .int x4), (5, .int x5), (6, .int x6), (7, .int x7), (8, .int x8)] [.int (if y23 = 2 then (1 : Int32) else 0)] h24 c25 s26 := by
          refine aw_istore (lv' := [(9, .int (if y23 = 2 then (1 : Int32) else 0)), (0, .ref x0), (1, .int x1), (3, .int x3), (4, .int x4), (5, .int x5), (6, .int x6), (7, .int x7), (8, .int x8)]) dX5_isInPair_89 (Nat.le_of_ble_eq_true rfl) rfl ?_
          refine aw_iload 5 dX5_isInPair_91 rfl ?_
          refine aw_iload 0 dX5_isInPair_93 rfl ?_
          have J9 : AW l G mX5_isInPair d mc ms P 115 [(9, .int (if y23 = 2 then (1 : Int32) else 0)), (0, .ref x0), (1, .int x1), (3, .int x3), (4, .int x4), (5, .int x5), (6, .int x6), (7, .int x7), (8, .int x8)] [.int (if (if y23 = 2 then (1 : Int32) else 0) = 0 then (0 : Int32) else if x3 = x6 then (0 : Int32) else if x3 = x8 then (0 : Int32) else 1), .int x5] h24 c25 s26 := by
            refine aw_ior dX5_isInPair_115 ?_
            refine aw_topi (fun v31 ev31 => ?_)
            have hv := hv v31 ev31
            refine aw_istore (lv' := [(5, .int v31), (9, .int (if y23 = 2 then (1 : Int32) else 0)), (0, .ref x0), (1, .int x1), (3, .int x3), (4, .int x4), (6, .int x6), (7, .int x7), (8, .int x8)]) dX5_isInPair_116 (Nat.le_of_ble_eq_true rfl) rfl ?_
            refine aw_iinc 8 (v := x8 + 1) (lv' := [(8, .int (x8 + 1)), (5, .int v31), (9, .int (if y23 = 2 then (1 : Int32) else 0)), (0, .ref x0), (1, .int x1), (3, .int x3), (4, .int x4), (6, .int x6), (7, .int x7)]) dX5_isInPair_118 rfl rfl (Nat.le_of_ble_eq_true rfl) rfl ?_
            refine aw_goto 41 dX5_isInPair_121 (by decide) ?_
            refine aw_sub [3, 4, 5, 6, 1, 7, 8, 0] rfl ?_
            exact hv hc9 hs9
          refine aw_if_eq 114 dX5_isInPair_95 (by decide) (fun c28 => ?_) (fun c28 => ?_)
          · have J9 := aw_ifT c28 J9
            refine aw_iconst (v := 0) dX5_isInPair_114 (by decide) ?_
            exact J9
          · have J9 := aw_ifF c28 J9
            refine aw_iload_n 3 dX5_isInPair_98 rfl rfl ?_
            refine aw_iload 6 dX5_isInPair_99 rfl ?_
            refine aw_icmp_eq 114 dX5_isInPair_101 (by decide) (fun c29 => ?_) (fun c29 => ?_)
            · have J9 := aw_ifT c29 J9
              refine aw_iconst (v := 0) dX5_isInPair_114 (by decide) ?_
              exact J9
            · have J9 := aw_ifF c29 J9
              refine aw_iload_n 3 dX5_isInPair_104 rfl rfl ?_
              refine aw_iload 8 dX5_isInPair_105 rfl ?_
              refine aw_icmp_eq 114 dX5_isInPair_107 (by decide) (fun c30 => ?_) (fun c30 => ?_)
              · have J9 := aw_ifT c30 J9
                refine aw_iconst (v := 0) dX5_isInPair_114 (by decide) ?_
                exact J9
              · have J9 := aw_ifF c30 J9
                refine aw_iconst (v := 1) dX5_isInPair_110 (by decide) ?_
                refine aw_goto 115 dX5_isInPair_111 (by decide) ?_
                exact J9
        refine aw_icmp_ne 88 dX5_isInPair_81 (by decide) (fun c27 => ?_) (fun c27 => ?_)
        · have J9 := aw_ifF c27 J9
          refine aw_iconst (v := 0) dX5_isInPair_88 (by decide) ?_
          exact J9
        · have J9 := aw_ifT c27 J9
          refine aw_iconst (v := 1) dX5_isInPair_84 (by decide) ?_
          refine aw_goto 89 dX5_isInPair_85 (by decide) ?_
          exact J9
def V_X5_isInPair_0 (l : Launch) (G : aG) (d mc ms : Nat) (P : aR → aH → Prop) (x0 : Nat) (x1 : Int32) (x2 : Int32) (x3 : Int32) (h : aH) : Prop :=
  vIs h x0 5 (
  vC l G mX5_placeIn (wsN mX5_placeIn) d mc ms [.ref x0, .int x1, .int x2] h 0 0 (xP P) (kI fun y32 h33 c34 s35 => 
  T_X5_isInPair_14 l G d mc ms P x0 x1 x3 y32 0 0 h33 c34 s35))
set_option maxHeartbeats 4000000 in
theorem A_X5_isInPair {l : Launch} {G : aG} {d mc ms : Nat} {P : aR → aH → Prop} {x0 : Nat} {x1 : Int32} {x2 : Int32} {x3 : Int32} {h : aH} (hl : l.stackTraces = false) (hv : V_X5_isInPair_0 l G d mc ms P x0 x1 x2 x3 h) : aC l G mX5_isInPair (wsN mX5_isInPair) d mc ms [.ref x0, .int x1, .int x2, .int x3] h P := by
  refine aC_ofF (M := mX5_isInPair) rfl pX5_isInPair (Nat.le_of_ble_eq_true rfl) hl ?_
  refine aw_eqv (lv2 := [(0, .ref x0), (1, .int x1), (2, .int x2), (3, .int x3)]) rfl rfl rfl rfl ?_
  unfold V_X5_isInPair_0 at hv
  refine aw_aload_n 0 (x := x0) dX5_isInPair_0 rfl rfl ?_
  refine aw_iload_n 1 dX5_isInPair_1 rfl rfl ?_
  refine aw_iload_n 2 dX5_isInPair_2 rfl rfl ?_
  obtain ⟨⟨fs, he⟩, hv⟩ := hv
  obtain ⟨d2, mc2, ms2, Q, hM, hd9, hc9, hs9, hv, hx⟩ := hv
  refine aw_callV (rest := []) hM he rfl rfl nX5_placeIn q734 q736 qs21 q132 q737 dX5_isInPair_3 rfl hd9 (by decide) (Nat.le_of_ble_eq_true rfl) hc9 hs9 ?_ ?_
  rotate_left
  · exact fun E h2 q => aX_out (hx E h2 q) rfl hc9 hs9
  intro v9 h33 hq
  have hv := hv v9 h33 hq
  obtain ⟨y32, rfl, hv⟩ := hv
  refine aw_eqv (pc2 := 6) (st2 := [.int y32]) rfl rfl rfl rfl ?_
  revert hv hc9 hs9; generalize 0 + mc2 = c34; generalize 0 + ms2 = s35; intro hc9 hs9 hv
  refine aw_istore (lv' := [(4, .int y32), (0, .ref x0), (1, .int x1), (2, .int x2), (3, .int x3)]) dX5_isInPair_6 (Nat.le_of_ble_eq_true rfl) rfl ?_
  refine aw_iconst (v := 0) dX5_isInPair_8 (by decide) ?_
  refine aw_istore (lv' := [(5, .int 0), (4, .int y32), (0, .ref x0), (1, .int x1), (2, .int x2), (3, .int x3)]) dX5_isInPair_9 (Nat.le_of_ble_eq_true rfl) rfl ?_
  refine aw_iconst (v := 0) dX5_isInPair_11 (by decide) ?_
  refine aw_istore (lv' := [(6, .int 0), (5, .int 0), (4, .int y32), (0, .ref x0), (1, .int x1), (2, .int x2), (3, .int x3)]) dX5_isInPair_12 (Nat.le_of_ble_eq_true rfl) rfl ?_
  refine aw_sub [3, 4, 6, 2, 1, 0] rfl ?_
  exact hv hc9 hs9
def V_X5_thingsIn_0 (l : Launch) (G : aG) (d mc ms : Nat) (P : aR → aH → Prop) (x0 : Nat) (x1 : Int32) (x2 : Int32) (h : aH) : Prop :=
  vIs h x0 5 (
  vC l G mX5_linePossible (wsN mX5_linePossible) d mc ms [.ref x0, .int x1] h 0 0 (xP P) (kI fun y1 h2 c3 s4 => 
  P (.inl (some (.int ((y1 >>> (((5 : Int32) * x2) &&& 31)) &&& (31 : Int32))))) h2))
set_option maxHeartbeats 4000000 in
theorem A_X5_thingsIn {l : Launch} {G : aG} {d mc ms : Nat} {P : aR → aH → Prop} {x0 : Nat} {x1 : Int32} {x2 : Int32} {h : aH} (hl : l.stackTraces = false) (hv : V_X5_thingsIn_0 l G d mc ms P x0 x1 x2 h) : aC l G mX5_thingsIn (wsN mX5_thingsIn) d mc ms [.ref x0, .int x1, .int x2] h P := by
  refine aC_ofF (M := mX5_thingsIn) rfl pX5_thingsIn (Nat.le_of_ble_eq_true rfl) hl ?_
  refine aw_eqv (lv2 := [(0, .ref x0), (1, .int x1), (2, .int x2)]) rfl rfl rfl rfl ?_
  unfold V_X5_thingsIn_0 at hv
  refine aw_aload_n 0 (x := x0) dX5_thingsIn_0 rfl rfl ?_
  refine aw_iload_n 1 dX5_thingsIn_1 rfl rfl ?_
  obtain ⟨⟨fs, he⟩, hv⟩ := hv
  obtain ⟨d2, mc2, ms2, Q, hM, hd9, hc9, hs9, hv, hx⟩ := hv
  refine aw_callV (rest := []) hM he rfl rfl nX5_linePossible q718 q720 qs17 q132 q721 dX5_thingsIn_2 rfl hd9 (by decide) (Nat.le_of_ble_eq_true rfl) hc9 hs9 ?_ ?_
  rotate_left
  · exact fun E h2 q => aX_out (hx E h2 q) rfl hc9 hs9
  intro v9 h2 hq
  have hv := hv v9 h2 hq
  obtain ⟨y1, rfl, hv⟩ := hv
  refine aw_eqv (pc2 := 5) (st2 := [.int y1]) rfl rfl rfl rfl ?_
  revert hv hc9 hs9; generalize 0 + mc2 = c3; generalize 0 + ms2 = s4; intro hc9 hs9 hv
  refine aw_iconst (v := 5) dX5_thingsIn_5 (by decide) ?_
  refine aw_iload_n 2 dX5_thingsIn_6 rfl rfl ?_
  refine aw_imul dX5_thingsIn_7 ?_
  refine aw_ishr dX5_thingsIn_8 ?_
  refine aw_bipush (v := 31) dX5_thingsIn_9 (by decide) ?_
  refine aw_iand dX5_thingsIn_11 ?_
  exact aw_iret rfl dX5_thingsIn_12 hv hc9 hs9
def V_X5_holdsIn_0 (l : Launch) (G : aG) (d mc ms : Nat) (P : aR → aH → Prop) (x0 : Nat) (x1 : Int32) (x2 : Int32) (x3 : Int32) (x4 : Int32) (h : aH) : Prop :=
  (x2 = 1 → 
    vR h x0 5 0 fun a2 =>
    vI h a2 3 5 fun y3 =>
    (y3 ≤ x4 → 
      P (.inl (some (.int 0))) h
      ) ∧ (¬ y3 ≤ x4 → 
      vIs h x0 5 (
      vC l G mX5_settledWith (wsN mX5_settledWith) d mc ms [.ref x0, .int x1, .int x4, .int x3] h 0 0 (xP P) (kI fun y5 h6 c7 s8 => 
      vB (if y5 = 0 then (0 : Int32) else 1) ∧ P (.inl (some (.int (if y5 = 0 then (0 : Int32) else 1)))) h6))
      )
  ) ∧ (x2 = 2 → 
    vIs h x0 5 (
    vC l G mX5_hasOther (wsN mX5_hasOther) d mc ms [.ref x0, .int x1, .int x3, .int x4] h 0 0 (xP P) (kI fun y11 h12 c13 s14 => 
    vB y11 ∧ P (.inl (some (.int y11))) h12))
  ) ∧ (x2 = 3 → 
    vIs h x0 5 (
    vC l G mX5_isByGaps (wsN mX5_isByGaps) d mc ms [.ref x0, .int x1, .int x3, .int x4] h 0 0 (xP P) (kI fun y16 h17 c18 s19 => 
    vB y16 ∧ P (.inl (some (.int y16))) h17))
  ) ∧ (x2 = 4 → 
    vIs h x0 5 (
    vC l G mX5_isInPair (wsN mX5_isInPair) d mc ms [.ref x0, .int x1, .int x3, .int x4] h 0 0 (xP P) (kI fun y21 h22 c23 s24 => 
    vB y21 ∧ P (.inl (some (.int y21))) h22))
  ) ∧ (¬ x2 = 1 → ¬ x2 = 2 → ¬ x2 = 3 → ¬ x2 = 4 → 
    vIs h x0 5 (
    vC l G mX5_placeIn (wsN mX5_placeIn) d mc ms [.ref x0, .int x1, .int x3] h 0 0 (xP P) (kI fun y26 h27 c28 s29 => 
    vIs h27 x0 5 (
    vC l G mX5_thingsIn (wsN mX5_thingsIn) d mc ms [.ref x0, .int x1, .int y26] h27 c28 s29 (xP P) (kI fun y30 h31 c32 s33 => 
    vC l G mX1_has (wsN mX1_has) d mc ms [.int y30, .int x4] h31 c32 s33 (xP P) (kI fun y34 h35 c36 s37 => 
    vB (if y34 = 0 then (1 : Int32) else 0) ∧ P (.inl (some (.int (if y34 = 0 then (1 : Int32) else 0)))) h35)))))
  )
set_option maxHeartbeats 4000000 in
theorem A_X5_holdsIn {l : Launch} {G : aG} {d mc ms : Nat} {P : aR → aH → Prop} {x0 : Nat} {x1 : Int32} {x2 : Int32} {x3 : Int32} {x4 : Int32} {h : aH} (hl : l.stackTraces = false) (hv : V_X5_holdsIn_0 l G d mc ms P x0 x1 x2 x3 x4 h) : aC l G mX5_holdsIn (wsN mX5_holdsIn) d mc ms [.ref x0, .int x1, .int x2, .int x3, .int x4] h P := by
  refine aC_ofF (M := mX5_holdsIn) rfl pX5_holdsIn (Nat.le_of_ble_eq_true rfl) hl ?_
  refine aw_eqv (lv2 := [(0, .ref x0), (1, .int x1), (2, .int x2), (3, .int x3), (4, .int x4)]) rfl rfl rfl rfl ?_
  unfold V_X5_holdsIn_0 at hv
  refine aw_iload_n 2 dX5_holdsIn_0 rfl rfl ?_
  by_cases c1_0 : x2 = 1
  · have hv := (hv).1 c1_0
    have ex : (x2).toInt = 1 := by rw [c1_0]; decide
    refine aw_tableIn 32 dX5_holdsIn_1 (by rw [ex]; decide) (by rw [ex]; decide) (by rw [ex]; rfl) (by decide) ?_
    refine aw_iload 4 dX5_holdsIn_32 rfl ?_
    refine aw_aload_n 0 (x := x0) dX5_holdsIn_34 rfl rfl ?_
    obtain ⟨fs, a2, he, hx, hv⟩ := hv
    refine aw_get (v := .ref a2) he rfl in_X5 0 (by decide) q376 (Or.inl rfl) hx dX5_holdsIn_35 ?_
    obtain ⟨fs, y3, he, hx, hv⟩ := hv
    refine aw_getN (v := .int y3) he rfl in_X3 5 (by decide) q333 (Or.inl rfl) hx dX5_holdsIn_38 ?_
    refine aw_icmp_ge 59 dX5_holdsIn_41 (by decide) (fun c4 => ?_) (fun c4 => ?_)
    · have hv := hv.1 c4
      refine aw_iconst (v := 0) dX5_holdsIn_59 (by decide) ?_
      exact aw_zret rfl rfl dX5_holdsIn_60 hv (Nat.zero_le _) (Nat.zero_le _)
    · have hv := hv.2 c4
      refine aw_aload_n 0 (x := x0) dX5_holdsIn_44 rfl rfl ?_
      refine aw_iload_n 1 dX5_holdsIn_45 rfl rfl ?_
      refine aw_iload 4 dX5_holdsIn_46 rfl ?_
      refine aw_iload_n 3 dX5_holdsIn_48 rfl rfl ?_
      obtain ⟨⟨fs, he⟩, hv⟩ := hv
      obtain ⟨d2, mc2, ms2, Q, hM, hd9, hc9, hs9, hv, hx⟩ := hv
      refine aw_callV (rest := []) hM he rfl rfl nX5_settledWith q726 q728 qs19 q132 q729 dX5_holdsIn_49 rfl hd9 (by decide) (Nat.le_of_ble_eq_true rfl) hc9 hs9 ?_ ?_
      rotate_left
      · exact fun E h2 q => aX_out (hx E h2 q) rfl hc9 hs9
      intro v9 h6 hq
      have hv := hv v9 h6 hq
      obtain ⟨y5, rfl, hv⟩ := hv
      refine aw_eqv (pc2 := 52) (st2 := [.int y5]) rfl rfl rfl rfl ?_
      revert hv hc9 hs9; generalize 0 + mc2 = c7; generalize 0 + ms2 = s8; intro hc9 hs9 hv
      have J9 : AW l G mX5_holdsIn d mc ms P 60 [(0, .ref x0), (1, .int x1), (2, .int x2), (3, .int x3), (4, .int x4)] [.int (if y5 = 0 then (0 : Int32) else 1)] h6 c7 s8 := by
        obtain ⟨z10, hv⟩ := hv
        exact aw_zret rfl z10.nar dX5_holdsIn_60 hv hc9 hs9
      refine aw_if_eq 59 dX5_holdsIn_52 (by decide) (fun c9 => ?_) (fun c9 => ?_)
      · have J9 := aw_ifT c9 J9
        refine aw_iconst (v := 0) dX5_holdsIn_59 (by decide) ?_
        exact J9
      · have J9 := aw_ifF c9 J9
        refine aw_iconst (v := 1) dX5_holdsIn_55 (by decide) ?_
        refine aw_goto 60 dX5_holdsIn_56 (by decide) ?_
        exact J9
  by_cases c1_1 : x2 = 2
  · have hv := ((hv).2).1 c1_1
    have ex : (x2).toInt = 2 := by rw [c1_1]; decide
    refine aw_tableIn 61 dX5_holdsIn_1 (by rw [ex]; decide) (by rw [ex]; decide) (by rw [ex]; rfl) (by decide) ?_
    refine aw_aload_n 0 (x := x0) dX5_holdsIn_61 rfl rfl ?_
    refine aw_iload_n 1 dX5_holdsIn_62 rfl rfl ?_
    refine aw_iload_n 3 dX5_holdsIn_63 rfl rfl ?_
    refine aw_iload 4 dX5_holdsIn_64 rfl ?_
    obtain ⟨⟨fs, he⟩, hv⟩ := hv
    obtain ⟨d2, mc2, ms2, Q, hM, hd9, hc9, hs9, hv, hx⟩ := hv
    refine aw_callV (rest := []) hM he rfl rfl nX5_hasOther q730 q732 qs20 q132 q733 dX5_holdsIn_66 rfl hd9 (by decide) (Nat.le_of_ble_eq_true rfl) hc9 hs9 ?_ ?_
    rotate_left
    · exact fun E h2 q => aX_out (hx E h2 q) rfl hc9 hs9
    intro v9 h12 hq
    have hv := hv v9 h12 hq
    obtain ⟨y11, rfl, hv⟩ := hv
    refine aw_eqv (pc2 := 69) (st2 := [.int y11]) rfl rfl rfl rfl ?_
    revert hv hc9 hs9; generalize 0 + mc2 = c13; generalize 0 + ms2 = s14; intro hc9 hs9 hv
    obtain ⟨z15, hv⟩ := hv
    exact aw_zret rfl z15.nar dX5_holdsIn_69 hv hc9 hs9
  by_cases c1_2 : x2 = 3
  · have hv := (((hv).2).2).1 c1_2
    have ex : (x2).toInt = 3 := by rw [c1_2]; decide
    refine aw_tableIn 70 dX5_holdsIn_1 (by rw [ex]; decide) (by rw [ex]; decide) (by rw [ex]; rfl) (by decide) ?_
    refine aw_aload_n 0 (x := x0) dX5_holdsIn_70 rfl rfl ?_
    refine aw_iload_n 1 dX5_holdsIn_71 rfl rfl ?_
    refine aw_iload_n 3 dX5_holdsIn_72 rfl rfl ?_
    refine aw_iload 4 dX5_holdsIn_73 rfl ?_
    obtain ⟨⟨fs, he⟩, hv⟩ := hv
    obtain ⟨d2, mc2, ms2, Q, hM, hd9, hc9, hs9, hv, hx⟩ := hv
    refine aw_callV (rest := []) hM he rfl rfl nX5_isByGaps q742 q744 qs23 q132 q745 dX5_holdsIn_75 rfl hd9 (by decide) (Nat.le_of_ble_eq_true rfl) hc9 hs9 ?_ ?_
    rotate_left
    · exact fun E h2 q => aX_out (hx E h2 q) rfl hc9 hs9
    intro v9 h17 hq
    have hv := hv v9 h17 hq
    obtain ⟨y16, rfl, hv⟩ := hv
    refine aw_eqv (pc2 := 78) (st2 := [.int y16]) rfl rfl rfl rfl ?_
    revert hv hc9 hs9; generalize 0 + mc2 = c18; generalize 0 + ms2 = s19; intro hc9 hs9 hv
    obtain ⟨z20, hv⟩ := hv
    exact aw_zret rfl z20.nar dX5_holdsIn_78 hv hc9 hs9
  by_cases c1_3 : x2 = 4
  · have hv := ((((hv).2).2).2).1 c1_3
    have ex : (x2).toInt = 4 := by rw [c1_3]; decide
    refine aw_tableIn 79 dX5_holdsIn_1 (by rw [ex]; decide) (by rw [ex]; decide) (by rw [ex]; rfl) (by decide) ?_
    refine aw_aload_n 0 (x := x0) dX5_holdsIn_79 rfl rfl ?_
    refine aw_iload_n 1 dX5_holdsIn_80 rfl rfl ?_
    refine aw_iload_n 3 dX5_holdsIn_81 rfl rfl ?_
    refine aw_iload 4 dX5_holdsIn_82 rfl ?_
    obtain ⟨⟨fs, he⟩, hv⟩ := hv
    obtain ⟨d2, mc2, ms2, Q, hM, hd9, hc9, hs9, hv, hx⟩ := hv
    refine aw_callV (rest := []) hM he rfl rfl nX5_isInPair q751 q753 qs24 q132 q754 dX5_holdsIn_84 rfl hd9 (by decide) (Nat.le_of_ble_eq_true rfl) hc9 hs9 ?_ ?_
    rotate_left
    · exact fun E h2 q => aX_out (hx E h2 q) rfl hc9 hs9
    intro v9 h22 hq
    have hv := hv v9 h22 hq
    obtain ⟨y21, rfl, hv⟩ := hv
    refine aw_eqv (pc2 := 87) (st2 := [.int y21]) rfl rfl rfl rfl ?_
    revert hv hc9 hs9; generalize 0 + mc2 = c23; generalize 0 + ms2 = s24; intro hc9 hs9 hv
    obtain ⟨z25, hv⟩ := hv
    exact aw_zret rfl z25.nar dX5_holdsIn_87 hv hc9 hs9
  have hv := (((((hv).2).2).2).2) c1_0 c1_1 c1_2 c1_3
  refine aw_tableOut 88 dX5_holdsIn_1 (by have ec1_0 := lv_neT (a := 1) c1_0 (by decide); have ec1_1 := lv_neT (a := 2) c1_1 (by decide); have ec1_2 := lv_neT (a := 3) c1_2 (by decide); have ec1_3 := lv_neT (a := 4) c1_3 (by decide); omega) (by decide) ?_
  refine aw_aload_n 0 (x := x0) dX5_holdsIn_88 rfl rfl ?_
  refine aw_iload_n 1 dX5_holdsIn_89 rfl rfl ?_
  refine aw_aload_n 0 (x := x0) dX5_holdsIn_90 rfl rfl ?_
  refine aw_iload_n 1 dX5_holdsIn_91 rfl rfl ?_
  refine aw_iload_n 3 dX5_holdsIn_92 rfl rfl ?_
  obtain ⟨⟨fs, he⟩, hv⟩ := hv
  obtain ⟨d2, mc2, ms2, Q, hM, hd9, hc9, hs9, hv, hx⟩ := hv
  refine aw_callV (rest := [.int x1, .ref x0]) hM he rfl rfl nX5_placeIn q734 q736 qs21 q132 q737 dX5_holdsIn_93 rfl hd9 (by decide) (Nat.le_of_ble_eq_true rfl) hc9 hs9 ?_ ?_
  rotate_left
  · exact fun E h2 q => aX_out (hx E h2 q) rfl hc9 hs9
  intro v9 h27 hq
  have hv := hv v9 h27 hq
  obtain ⟨y26, rfl, hv⟩ := hv
  refine aw_eqv (pc2 := 96) (st2 := [.int y26, .int x1, .ref x0]) rfl rfl rfl rfl ?_
  revert hv hc9 hs9; generalize 0 + mc2 = c28; generalize 0 + ms2 = s29; intro hc9 hs9 hv
  obtain ⟨⟨fs, he⟩, hv⟩ := hv
  obtain ⟨d2, mc2, ms2, Q, hM, hd9, hc9, hs9, hv, hx⟩ := hv
  refine aw_callV (rest := []) hM he rfl rfl nX5_thingsIn q755 q756 q757 q132 q758 dX5_holdsIn_96 rfl hd9 (by decide) (Nat.le_of_ble_eq_true rfl) hc9 hs9 ?_ ?_
  rotate_left
  · exact fun E h2 q => aX_out (hx E h2 q) rfl hc9 hs9
  intro v9 h31 hq
  have hv := hv v9 h31 hq
  obtain ⟨y30, rfl, hv⟩ := hv
  refine aw_eqv (pc2 := 99) (st2 := [.int y30]) rfl rfl rfl rfl ?_
  revert hv hc9 hs9; generalize c28 + mc2 = c32; generalize s29 + ms2 = s33; intro hc9 hs9 hv
  refine aw_iload 4 dX5_holdsIn_99 rfl ?_
  obtain ⟨d2, mc2, ms2, Q, hM, hd9, hc9, hs9, hv, hx⟩ := hv
  refine aw_callSN (rest := []) hM nX1_has q655 q298 q119 q299 dX5_holdsIn_101 rfl hd9 (by decide) (Nat.le_of_ble_eq_true rfl) hc9 hs9 ?_ ?_
  rotate_left
  · exact fun E h2 q => aX_out (hx E h2 q) rfl hc9 hs9
  intro v9 h35 hq
  have hv := hv v9 h35 hq
  obtain ⟨y34, rfl, hv⟩ := hv
  refine aw_eqv (pc2 := 104) (st2 := [.int y34]) rfl rfl rfl rfl ?_
  revert hv hc9 hs9; generalize c32 + mc2 = c36; generalize s33 + ms2 = s37; intro hc9 hs9 hv
  have J9 : AW l G mX5_holdsIn d mc ms P 112 [(0, .ref x0), (1, .int x1), (2, .int x2), (3, .int x3), (4, .int x4)] [.int (if y34 = 0 then (1 : Int32) else 0)] h35 c36 s37 := by
    obtain ⟨z39, hv⟩ := hv
    exact aw_zret rfl z39.nar dX5_holdsIn_112 hv hc9 hs9
  refine aw_if_ne 111 dX5_holdsIn_104 (by decide) (fun c38 => ?_) (fun c38 => ?_)
  · have J9 := aw_ifF c38 J9
    refine aw_iconst (v := 0) dX5_holdsIn_111 (by decide) ?_
    exact J9
  · have J9 := aw_ifT c38 J9
    refine aw_iconst (v := 1) dX5_holdsIn_107 (by decide) ?_
    refine aw_goto 112 dX5_holdsIn_108 (by decide) ?_
    exact J9
def T_X5_holds_29 (l : Launch) (G : aG) (d mc ms : Nat) (P : aR → aH → Prop) (x0 : Nat) (x1 : Int32) (x2 : Int32) (x3 : Int32) (x5 : Int32) (x6 : Int32) (h : aH) (c s : Nat) : Prop := c ≤ mc → s ≤ ms → AW l G mX5_holds d mc ms P 29 [(0, .ref x0), (1, .int x1), (2, .int x2), (3, .int x3), (5, .int x5), (6, .int x6)] [] h c s
def V_X5_holds_29 (l : Launch) (G : aG) (d mc ms : Nat) (P : aR → aH → Prop) (x0 : Nat) (x1 : Int32) (x2 : Int32) (x3 : Int32) (x5 : Int32) (x6 : Int32) (h : aH) (c s : Nat) : Prop :=
  (x6 = 0 → 
    vB x5 ∧ P (.inl (some (.int x5))) h
    ) ∧ (¬ x6 = 0 → 
    (¬ x5 = 0 → 
      vB x5 ∧ P (.inl (some (.int x5))) h
      ) ∧ (x5 = 0 → 
      vC l G mJ6_numberOfTrailingZeros (wsN mJ6_numberOfTrailingZeros) d mc ms [.int x6] h c s (xP P) (kI fun y5 h6 c7 s8 => 
      vIs h6 x0 5 (
      vC l G mX5_holdsIn (wsN mX5_holdsIn) d mc ms [.ref x0, .int y5, .int x1, .int x2, .int x3] h6 c7 s8 (xP P) (kI fun y9 h10 c11 s12 => 
      T_X5_holds_29 l G d mc ms P x0 x1 x2 x3 y9 (x6 &&& (x6 - (1 : Int32))) h10 c11 s12)))
      )
    )
set_option maxHeartbeats 4000000 in
theorem A_X5_holds_29 {l : Launch} {G : aG} {d mc ms : Nat} {P : aR → aH → Prop} {x0 : Nat} {x1 : Int32} {x2 : Int32} {x3 : Int32} {x5 : Int32} {x6 : Int32} {h : aH} {c s : Nat} (hl : l.stackTraces = false) (hv : V_X5_holds_29 l G d mc ms P x0 x1 x2 x3 x5 x6 h c s) : T_X5_holds_29 l G d mc ms P x0 x1 x2 x3 x5 x6 h c s := by
  intro hc hs
  unfold V_X5_holds_29 at hv
  refine aw_iload 5 dX5_holds_29 rfl ?_
  refine aw_if_eq 65 dX5_holds_31 (by decide) (fun c1 => ?_) (fun c1 => ?_)
  · have hv := hv.1 c1
    refine aw_iload 4 dX5_holds_65 rfl ?_
    obtain ⟨z2, hv⟩ := hv
    exact aw_zret rfl z2.nar dX5_holds_67 hv hc hs
  · have hv := hv.2 c1
    refine aw_iload 4 dX5_holds_34 rfl ?_
    refine aw_if_ne 65 dX5_holds_36 (by decide) (fun c3 => ?_) (fun c3 => ?_)
    · have hv := hv.1 c3
      refine aw_iload 4 dX5_holds_65 rfl ?_
      obtain ⟨z4, hv⟩ := hv
      exact aw_zret rfl z4.nar dX5_holds_67 hv hc hs
    · have hv := hv.2 c3
      refine aw_aload_n 0 (x := x0) dX5_holds_39 rfl rfl ?_
      refine aw_iload 5 dX5_holds_40 rfl ?_
      obtain ⟨d2, mc2, ms2, Q, hM, hd9, hc9, hs9, hv, hx⟩ := hv
      refine aw_callS (rest := [.ref x0]) hM nJ6_numberOfTrailingZeros q700 q543 q131 q544 dX5_holds_42 rfl hd9 (by decide) (Nat.le_of_ble_eq_true rfl) hc9 hs9 ?_ ?_
      rotate_left
      · exact fun E h2 q => aX_out (hx E h2 q) rfl hc9 hs9
      intro v9 h6 hq
      have hv := hv v9 h6 hq
      obtain ⟨y5, rfl, hv⟩ := hv
      refine aw_eqv (pc2 := 45) (st2 := [.int y5, .ref x0]) rfl rfl rfl rfl ?_
      revert hv hc9 hs9; generalize c + mc2 = c7; generalize s + ms2 = s8; intro hc9 hs9 hv
      refine aw_iload_n 1 dX5_holds_45 rfl rfl ?_
      refine aw_iload_n 2 dX5_holds_46 rfl rfl ?_
      refine aw_iload_n 3 dX5_holds_47 rfl rfl ?_
      obtain ⟨⟨fs, he⟩, hv⟩ := hv
      obtain ⟨d2, mc2, ms2, Q, hM, hd9, hc9, hs9, hv, hx⟩ := hv
      refine aw_callV (rest := []) hM he rfl rfl nX5_holdsIn q722 q724 qs18 q132 q725 dX5_holds_48 rfl hd9 (by decide) (Nat.le_of_ble_eq_true rfl) hc9 hs9 ?_ ?_
      rotate_left
      · exact fun E h2 q => aX_out (hx E h2 q) rfl hc9 hs9
      intro v9 h10 hq
      have hv := hv v9 h10 hq
      obtain ⟨y9, rfl, hv⟩ := hv
      refine aw_eqv (pc2 := 51) (st2 := [.int y9]) rfl rfl rfl rfl ?_
      revert hv hc9 hs9; generalize c7 + mc2 = c11; generalize s8 + ms2 = s12; intro hc9 hs9 hv
      refine aw_istore (lv' := [(5, .int y9), (0, .ref x0), (1, .int x1), (2, .int x2), (3, .int x3), (6, .int x6)]) dX5_holds_51 (Nat.le_of_ble_eq_true rfl) rfl ?_
      refine aw_iload 5 dX5_holds_53 rfl ?_
      refine aw_iload 5 dX5_holds_55 rfl ?_
      refine aw_iconst (v := 1) dX5_holds_57 (by decide) ?_
      refine aw_isub dX5_holds_58 ?_
      refine aw_iand dX5_holds_59 ?_
      refine aw_istore (lv' := [(6, .int (x6 &&& (x6 - (1 : Int32)))), (5, .int y9), (0, .ref x0), (1, .int x1), (2, .int x2), (3, .int x3)]) dX5_holds_60 (Nat.le_of_ble_eq_true rfl) rfl ?_
      refine aw_goto 29 dX5_holds_62 (by decide) ?_
      refine aw_sub [2, 3, 4, 5, 1, 0] rfl ?_
      exact hv hc9 hs9
def V_X5_holds_0 (l : Launch) (G : aG) (d mc ms : Nat) (P : aR → aH → Prop) (x0 : Nat) (x1 : Int32) (x2 : Int32) (x3 : Int32) (x4 : Nat) (h : aH) : Prop :=
  (¬ x1 = 6 → 
    vR h x0 5 0 fun a14 =>
    vR h a14 3 2 fun a15 =>
    vA .int h a15 x2 fun y16 =>
    T_X5_holds_29 l G d mc ms P x0 x1 x2 x3 0 y16 h 0 0
    ) ∧ (x1 = 6 → 
    vIs h x0 5 (
    vC l G mX5_breaksAs (wsN mX5_breaksAs) d mc ms [.ref x0, .int x2, .int x3, .ref x4] h 0 0 (xP P) (kI fun y17 h18 c19 s20 => 
    vB y17 ∧ P (.inl (some (.int y17))) h18))
    )
set_option maxHeartbeats 4000000 in
theorem A_X5_holds {l : Launch} {G : aG} {d mc ms : Nat} {P : aR → aH → Prop} {x0 : Nat} {x1 : Int32} {x2 : Int32} {x3 : Int32} {x4 : Nat} {h : aH} (hl : l.stackTraces = false) (hv : V_X5_holds_0 l G d mc ms P x0 x1 x2 x3 x4 h) : aC l G mX5_holds (wsN mX5_holds) d mc ms [.ref x0, .int x1, .int x2, .int x3, .ref x4] h P := by
  refine aC_ofF (M := mX5_holds) rfl pX5_holds (Nat.le_of_ble_eq_true rfl) hl ?_
  refine aw_eqv (lv2 := [(0, .ref x0), (1, .int x1), (2, .int x2), (3, .int x3), (4, .ref x4)]) rfl rfl rfl rfl ?_
  unfold V_X5_holds_0 at hv
  refine aw_iload_n 1 dX5_holds_0 rfl rfl ?_
  refine aw_bipush (v := 6) dX5_holds_1 (by decide) ?_
  refine aw_icmp_ne 15 dX5_holds_3 (by decide) (fun c13 => ?_) (fun c13 => ?_)
  · have hv := hv.1 c13
    refine aw_iconst (v := 0) dX5_holds_15 (by decide) ?_
    refine aw_istore (lv' := [(5, .int 0), (0, .ref x0), (1, .int x1), (2, .int x2), (3, .int x3), (4, .ref x4)]) dX5_holds_16 (Nat.le_of_ble_eq_true rfl) rfl ?_
    refine aw_aload_n 1 (x := x0) dX5_holds_18 rfl rfl ?_
    obtain ⟨fs, a14, he, hx, hv⟩ := hv
    refine aw_get (v := .ref a14) he rfl in_X5 0 (by decide) q376 (Or.inl rfl) hx dX5_holds_19 ?_
    obtain ⟨fs, a15, he, hx, hv⟩ := hv
    refine aw_getN (v := .ref a15) he rfl in_X3 2 (by decide) q327 (Or.inl rfl) hx dX5_holds_22 ?_
    refine aw_iload_n 3 dX5_holds_25 rfl rfl ?_
    obtain ⟨n9, f9, he, hin, hv⟩ := hv
    refine aw_iald he hin dX5_holds_26 ?_
    revert hv; generalize f9 (x2).toNatClampNeg = y16; intro hv
    refine aw_istore (lv' := [(6, .int y16), (5, .int 0), (0, .ref x0), (1, .int x1), (2, .int x2), (3, .int x3), (4, .ref x4)]) dX5_holds_27 (Nat.le_of_ble_eq_true rfl) rfl ?_
    refine aw_sub [2, 3, 4, 5, 1, 0] rfl ?_
    exact hv (Nat.zero_le _) (Nat.zero_le _)
  · have hv := hv.2 c13
    refine aw_aload_n 0 (x := x0) dX5_holds_6 rfl rfl ?_
    refine aw_iload_n 2 dX5_holds_7 rfl rfl ?_
    refine aw_iload_n 3 dX5_holds_8 rfl rfl ?_
    refine aw_aload 4 (x := x4) dX5_holds_9 rfl ?_
    obtain ⟨⟨fs, he⟩, hv⟩ := hv
    obtain ⟨d2, mc2, ms2, Q, hM, hd9, hc9, hs9, hv, hx⟩ := hv
    refine aw_callV (rest := []) hM he rfl rfl nX5_breaksAs q705 q707 qs14 q132 q708 dX5_holds_11 rfl hd9 (by decide) (Nat.le_of_ble_eq_true rfl) hc9 hs9 ?_ ?_
    rotate_left
    · exact fun E h2 q => aX_out (hx E h2 q) rfl hc9 hs9
    intro v9 h18 hq
    have hv := hv v9 h18 hq
    obtain ⟨y17, rfl, hv⟩ := hv
    refine aw_eqv (pc2 := 14) (st2 := [.int y17]) rfl rfl rfl rfl ?_
    revert hv hc9 hs9; generalize 0 + mc2 = c19; generalize 0 + ms2 = s20; intro hc9 hs9 hv
    obtain ⟨z21, hv⟩ := hv
    exact aw_zret rfl z21.nar dX5_holds_14 hv hc9 hs9
def T_X5_nextFor_2 (l : Launch) (G : aG) (d mc ms : Nat) (P : aR → aH → Prop) (x0 : Nat) (x1 : Int32) (x2 : Nat) (x3 : Int32) (h : aH) (c s : Nat) : Prop := c ≤ mc → s ≤ ms → AW l G mX5_nextFor d mc ms P 2 [(0, .ref x0), (1, .int x1), (2, .ref x2), (3, .int x3)] [] h c s
def T_X5_nextFor_33 (l : Launch) (G : aG) (d mc ms : Nat) (P : aR → aH → Prop) (x0 : Nat) (x1 : Int32) (x2 : Nat) (x3 : Int32) (x4 : Int32) (h : aH) (c s : Nat) : Prop := c ≤ mc → s ≤ ms → AW l G mX5_nextFor d mc ms P 33 [(0, .ref x0), (1, .int x1), (2, .ref x2), (3, .int x3), (4, .int x4)] [] h c s
def V_X5_nextFor_2 (l : Launch) (G : aG) (d mc ms : Nat) (P : aR → aH → Prop) (x0 : Nat) (x1 : Int32) (x2 : Nat) (x3 : Int32) (h : aH) (c s : Nat) : Prop :=
  vR h x0 5 0 fun a1 =>
  vIs h a1 3 (
  vC l G mX3_cellCount (wsN mX3_cellCount) d mc ms [.ref a1] h c s (xP P) (kI fun y2 h3 c4 s5 => 
  (y2 ≤ x3 → 
    P (.inl (some (.int ((-1))))) h3
    ) ∧ (¬ y2 ≤ x3 → 
    vIs h3 x0 5 (
    vC l G mX5_isSettled (wsN mX5_isSettled) d mc ms [.ref x0, .int x3] h3 c4 s5 (xP P) (kI fun y7 h8 c9 s10 => 
    (y7 = 0 → 
      vR h8 x0 5 1 fun a12 =>
      vA .int h8 a12 x3 fun y13 =>
      T_X5_nextFor_33 l G d mc ms P x0 x1 x2 x3 y13 h8 c9 s10
      ) ∧ (¬ y7 = 0 → 
      T_X5_nextFor_33 l G d mc ms P x0 x1 x2 x3 0 h8 c9 s10
      )))
    )))
set_option maxHeartbeats 4000000 in
theorem A_X5_nextFor_2 {l : Launch} {G : aG} {d mc ms : Nat} {P : aR → aH → Prop} {x0 : Nat} {x1 : Int32} {x2 : Nat} {x3 : Int32} {h : aH} {c s : Nat} (hl : l.stackTraces = false) (hv : V_X5_nextFor_2 l G d mc ms P x0 x1 x2 x3 h c s) : T_X5_nextFor_2 l G d mc ms P x0 x1 x2 x3 h c s := by
  intro hc hs
  unfold V_X5_nextFor_2 at hv
  refine aw_iload_n 3 dX5_nextFor_2 rfl rfl ?_
  refine aw_aload_n 0 (x := x0) dX5_nextFor_3 rfl rfl ?_
  obtain ⟨fs, a1, he, hx, hv⟩ := hv
  refine aw_get (v := .ref a1) he rfl in_X5 0 (by decide) q376 (Or.inl rfl) hx dX5_nextFor_4 ?_
  obtain ⟨⟨fs, he⟩, hv⟩ := hv
  obtain ⟨d2, mc2, ms2, Q, hM, hd9, hc9, hs9, hv, hx⟩ := hv
  refine aw_callV (rest := [.int x3]) hM he rfl rfl nX3_cellCount q368 q369 q370 q121 q371 dX5_nextFor_7 rfl hd9 (by decide) (Nat.le_of_ble_eq_true rfl) hc9 hs9 ?_ ?_
  rotate_left
  · exact fun E h2 q => aX_out (hx E h2 q) rfl hc9 hs9
  intro v9 h3 hq
  have hv := hv v9 h3 hq
  obtain ⟨y2, rfl, hv⟩ := hv
  refine aw_eqv (pc2 := 10) (st2 := [.int y2, .int x3]) rfl rfl rfl rfl ?_
  revert hv hc9 hs9; generalize c + mc2 = c4; generalize s + ms2 = s5; intro hc9 hs9 hv
  refine aw_icmp_ge 83 dX5_nextFor_10 (by decide) (fun c6 => ?_) (fun c6 => ?_)
  · have hv := hv.1 c6
    refine aw_iconst (v := (-1)) dX5_nextFor_83 (by decide) ?_
    exact aw_iret rfl dX5_nextFor_84 hv hc9 hs9
  · have hv := hv.2 c6
    refine aw_aload_n 0 (x := x0) dX5_nextFor_13 rfl rfl ?_
    refine aw_iload_n 3 dX5_nextFor_14 rfl rfl ?_
    obtain ⟨⟨fs, he⟩, hv⟩ := hv
    obtain ⟨d2, mc2, ms2, Q, hM, hd9, hc9, hs9, hv, hx⟩ := hv
    refine aw_callV (rest := []) hM he rfl rfl nX5_isSettled q678 q610 q611 q132 q612 dX5_nextFor_15 rfl hd9 (by decide) (Nat.le_of_ble_eq_true rfl) hc9 hs9 ?_ ?_
    rotate_left
    · exact fun E h2 q => aX_out (hx E h2 q) rfl hc9 hs9
    intro v9 h8 hq
    have hv := hv v9 h8 hq
    obtain ⟨y7, rfl, hv⟩ := hv
    refine aw_eqv (pc2 := 18) (st2 := [.int y7]) rfl rfl rfl rfl ?_
    revert hv hc9 hs9; generalize c4 + mc2 = c9; generalize s5 + ms2 = s10; intro hc9 hs9 hv
    refine aw_if_eq 25 dX5_nextFor_18 (by decide) (fun c11 => ?_) (fun c11 => ?_)
    · have hv := hv.1 c11
      refine aw_aload_n 0 (x := x0) dX5_nextFor_25 rfl rfl ?_
      obtain ⟨fs, a12, he, hx, hv⟩ := hv
      refine aw_get (v := .ref a12) he rfl in_X5 1 (by decide) q377 (Or.inl rfl) hx dX5_nextFor_26 ?_
      refine aw_iload_n 3 dX5_nextFor_29 rfl rfl ?_
      obtain ⟨n9, f9, he, hin, hv⟩ := hv
      refine aw_iald he hin dX5_nextFor_30 ?_
      revert hv; generalize f9 (x3).toNatClampNeg = y13; intro hv
      refine aw_istore (lv' := [(4, .int y13), (0, .ref x0), (1, .int x1), (2, .ref x2), (3, .int x3)]) dX5_nextFor_31 (Nat.le_of_ble_eq_true rfl) rfl ?_
      refine aw_sub [1, 2, 3, 4, 0] rfl ?_
      exact hv hc9 hs9
    · have hv := hv.2 c11
      refine aw_iconst (v := 0) dX5_nextFor_21 (by decide) ?_
      refine aw_goto 31 dX5_nextFor_22 (by decide) ?_
      refine aw_istore (lv' := [(4, .int 0), (0, .ref x0), (1, .int x1), (2, .ref x2), (3, .int x3)]) dX5_nextFor_31 (Nat.le_of_ble_eq_true rfl) rfl ?_
      refine aw_sub [1, 2, 3, 4, 0] rfl ?_
      exact hv hc9 hs9
def V_X5_nextFor_33 (l : Launch) (G : aG) (d mc ms : Nat) (P : aR → aH → Prop) (x0 : Nat) (x1 : Int32) (x2 : Nat) (x3 : Int32) (x4 : Int32) (h : aH) (c s : Nat) : Prop :=
  (x4 = 0 → 
    T_X5_nextFor_2 l G d mc ms P x0 x1 x2 (x3 + 1) h c s
    ) ∧ (¬ x4 = 0 → 
    vC l G mJ6_numberOfTrailingZeros (wsN mJ6_numberOfTrailingZeros) d mc ms [.int x4] h c s (xP P) (kI fun y15 h16 c17 s18 => 
    vIs h16 x0 5 (
    vC l G mX5_holds (wsN mX5_holds) d mc ms [.ref x0, .int x1, .int x3, .int y15, .ref x2] h16 c17 s18 (xP P) (kI fun y19 h20 c21 s22 => 
    (y19 = 0 → 
      T_X5_nextFor_33 l G d mc ms P x0 x1 x2 x3 (x4 &&& (x4 - (1 : Int32))) h20 c21 s22
      ) ∧ (¬ y19 = 0 → 
      P (.inl (some (.int (((10 : Int32) * x3) + y15)))) h20
      ))))
    )
set_option maxHeartbeats 4000000 in
theorem A_X5_nextFor_33 {l : Launch} {G : aG} {d mc ms : Nat} {P : aR → aH → Prop} {x0 : Nat} {x1 : Int32} {x2 : Nat} {x3 : Int32} {x4 : Int32} {h : aH} {c s : Nat} (hl : l.stackTraces = false) (hv : V_X5_nextFor_33 l G d mc ms P x0 x1 x2 x3 x4 h c s) : T_X5_nextFor_33 l G d mc ms P x0 x1 x2 x3 x4 h c s := by
  intro hc hs
  unfold V_X5_nextFor_33 at hv
  refine aw_iload 4 dX5_nextFor_33 rfl ?_
  refine aw_if_eq 77 dX5_nextFor_35 (by decide) (fun c14 => ?_) (fun c14 => ?_)
  · have hv := hv.1 c14
    refine aw_iinc 3 (v := x3 + 1) (lv' := [(3, .int (x3 + 1)), (0, .ref x0), (1, .int x1), (2, .ref x2), (4, .int x4)]) dX5_nextFor_77 rfl rfl (Nat.le_of_ble_eq_true rfl) rfl ?_
    refine aw_goto 2 dX5_nextFor_80 (by decide) ?_
    refine aw_sub [1, 2, 3, 0] rfl ?_
    exact hv hc hs
  · have hv := hv.2 c14
    refine aw_iload 4 dX5_nextFor_38 rfl ?_
    obtain ⟨d2, mc2, ms2, Q, hM, hd9, hc9, hs9, hv, hx⟩ := hv
    refine aw_callS (rest := []) hM nJ6_numberOfTrailingZeros q700 q543 q131 q544 dX5_nextFor_40 rfl hd9 (by decide) (Nat.le_of_ble_eq_true rfl) hc9 hs9 ?_ ?_
    rotate_left
    · exact fun E h2 q => aX_out (hx E h2 q) rfl hc9 hs9
    intro v9 h16 hq
    have hv := hv v9 h16 hq
    obtain ⟨y15, rfl, hv⟩ := hv
    refine aw_eqv (pc2 := 43) (st2 := [.int y15]) rfl rfl rfl rfl ?_
    revert hv hc9 hs9; generalize c + mc2 = c17; generalize s + ms2 = s18; intro hc9 hs9 hv
    refine aw_istore (lv' := [(5, .int y15), (0, .ref x0), (1, .int x1), (2, .ref x2), (3, .int x3), (4, .int x4)]) dX5_nextFor_43 (Nat.le_of_ble_eq_true rfl) rfl ?_
    refine aw_aload_n 1 (x := x0) dX5_nextFor_45 rfl rfl ?_
    refine aw_iload_n 2 dX5_nextFor_46 rfl rfl ?_
    refine aw_iload_n 4 dX5_nextFor_47 rfl rfl ?_
    refine aw_iload 0 dX5_nextFor_48 rfl ?_
    refine aw_aload_n 3 (x := x2) dX5_nextFor_50 rfl rfl ?_
    obtain ⟨⟨fs, he⟩, hv⟩ := hv
    obtain ⟨d2, mc2, ms2, Q, hM, hd9, hc9, hs9, hv, hx⟩ := hv
    refine aw_callV (rest := []) hM he rfl rfl nX5_holds q701 q702 q703 q132 q704 dX5_nextFor_51 rfl hd9 (by decide) (Nat.le_of_ble_eq_true rfl) hc9 hs9 ?_ ?_
    rotate_left
    · exact fun E h2 q => aX_out (hx E h2 q) rfl hc9 hs9
    intro v9 h20 hq
    have hv := hv v9 h20 hq
    obtain ⟨y19, rfl, hv⟩ := hv
    refine aw_eqv (pc2 := 54) (st2 := [.int y19]) rfl rfl rfl rfl ?_
    revert hv hc9 hs9; generalize c17 + mc2 = c21; generalize s18 + ms2 = s22; intro hc9 hs9 hv
    refine aw_if_eq 65 dX5_nextFor_54 (by decide) (fun c23 => ?_) (fun c23 => ?_)
    · have hv := hv.1 c23
      refine aw_iload 5 dX5_nextFor_65 rfl ?_
      refine aw_iload 5 dX5_nextFor_67 rfl ?_
      refine aw_iconst (v := 1) dX5_nextFor_69 (by decide) ?_
      refine aw_isub dX5_nextFor_70 ?_
      refine aw_iand dX5_nextFor_71 ?_
      refine aw_istore (lv' := [(4, .int (x4 &&& (x4 - (1 : Int32)))), (5, .int y15), (0, .ref x0), (1, .int x1), (2, .ref x2), (3, .int x3)]) dX5_nextFor_72 (Nat.le_of_ble_eq_true rfl) rfl ?_
      refine aw_goto 33 dX5_nextFor_74 (by decide) ?_
      refine aw_sub [2, 3, 4, 5, 0] rfl ?_
      exact hv hc9 hs9
    · have hv := hv.2 c23
      refine aw_bipush (v := 10) dX5_nextFor_57 (by decide) ?_
      refine aw_iload_n 4 dX5_nextFor_59 rfl rfl ?_
      refine aw_imul dX5_nextFor_60 ?_
      refine aw_iload 0 dX5_nextFor_61 rfl ?_
      refine aw_iadd dX5_nextFor_63 ?_
      exact aw_iret rfl dX5_nextFor_64 hv hc9 hs9
def V_X5_nextFor_0 (l : Launch) (G : aG) (d mc ms : Nat) (P : aR → aH → Prop) (x0 : Nat) (x1 : Int32) (x2 : Nat) (h : aH) : Prop :=
  T_X5_nextFor_2 l G d mc ms P x0 x1 x2 0 h 0 0
set_option maxHeartbeats 4000000 in
theorem A_X5_nextFor {l : Launch} {G : aG} {d mc ms : Nat} {P : aR → aH → Prop} {x0 : Nat} {x1 : Int32} {x2 : Nat} {h : aH} (hl : l.stackTraces = false) (hv : V_X5_nextFor_0 l G d mc ms P x0 x1 x2 h) : aC l G mX5_nextFor (wsN mX5_nextFor) d mc ms [.ref x0, .int x1, .ref x2] h P := by
  refine aC_ofF (M := mX5_nextFor) rfl pX5_nextFor (Nat.le_of_ble_eq_true rfl) hl ?_
  refine aw_eqv (lv2 := [(0, .ref x0), (1, .int x1), (2, .ref x2)]) rfl rfl rfl rfl ?_
  unfold V_X5_nextFor_0 at hv
  refine aw_iconst (v := 0) dX5_nextFor_0 (by decide) ?_
  refine aw_istore_n (lv' := [(3, .int 0), (0, .ref x0), (1, .int x1), (2, .ref x2)]) dX5_nextFor_1 rfl (Nat.le_of_ble_eq_true rfl) rfl ?_
  refine aw_sub [1, 2, 3, 0] rfl ?_
  exact hv (Nat.zero_le _) (Nat.zero_le _)
def T_X5_next_11 (l : Launch) (G : aG) (d mc ms : Nat) (P : aR → aH → Prop) (x0 : Nat) (x1 : Int32) (x2 : Nat) (x3 : Int32) (h : aH) (c s : Nat) : Prop := c ≤ mc → s ≤ ms → AW l G mX5_next d mc ms P 11 [(0, .ref x0), (1, .int x1), (2, .ref x2), (3, .int x3)] [] h c s
def V_X5_next_11 (l : Launch) (G : aG) (d mc ms : Nat) (P : aR → aH → Prop) (x0 : Nat) (x1 : Int32) (x2 : Nat) (x3 : Int32) (h : aH) (c s : Nat) : Prop :=
  (x1 < x3 → 
    P (.inl (some (.int ((-1))))) h
    ) ∧ (¬ x1 < x3 → 
    vIs h x0 5 (
    vC l G mX5_nextFor (wsN mX5_nextFor) d mc ms [.ref x0, .int x3, .ref x2] h c s (xP P) (kI fun y2 h3 c4 s5 => 
    (y2 = ((-1)) → 
      T_X5_next_11 l G d mc ms P x0 x1 x2 (x3 + 1) h3 c4 s5
      ) ∧ (¬ y2 = ((-1)) → 
      P (.inl (some (.int (((1000 : Int32) * x3) + y2)))) h3
      )))
    )
set_option maxHeartbeats 4000000 in
theorem A_X5_next_11 {l : Launch} {G : aG} {d mc ms : Nat} {P : aR → aH → Prop} {x0 : Nat} {x1 : Int32} {x2 : Nat} {x3 : Int32} {h : aH} {c s : Nat} (hl : l.stackTraces = false) (hv : V_X5_next_11 l G d mc ms P x0 x1 x2 x3 h c s) : T_X5_next_11 l G d mc ms P x0 x1 x2 x3 h c s := by
  intro hc hs
  unfold V_X5_next_11 at hv
  refine aw_iload_n 3 dX5_next_11 rfl rfl ?_
  refine aw_iload_n 1 dX5_next_12 rfl rfl ?_
  refine aw_icmp_gt 45 dX5_next_13 (by decide) (fun c1 => ?_) (fun c1 => ?_)
  · have hv := hv.1 c1
    refine aw_iconst (v := (-1)) dX5_next_45 (by decide) ?_
    exact aw_iret rfl dX5_next_46 hv hc hs
  · have hv := hv.2 c1
    refine aw_aload_n 0 (x := x0) dX5_next_16 rfl rfl ?_
    refine aw_iload_n 3 dX5_next_17 rfl rfl ?_
    refine aw_aload_n 2 (x := x2) dX5_next_18 rfl rfl ?_
    obtain ⟨⟨fs, he⟩, hv⟩ := hv
    obtain ⟨d2, mc2, ms2, Q, hM, hd9, hc9, hs9, hv, hx⟩ := hv
    refine aw_callV (rest := []) hM he rfl rfl nX5_nextFor q696 q698 qs13 q132 q699 dX5_next_19 rfl hd9 (by decide) (Nat.le_of_ble_eq_true rfl) hc9 hs9 ?_ ?_
    rotate_left
    · exact fun E h2 q => aX_out (hx E h2 q) rfl hc9 hs9
    intro v9 h3 hq
    have hv := hv v9 h3 hq
    obtain ⟨y2, rfl, hv⟩ := hv
    refine aw_eqv (pc2 := 22) (st2 := [.int y2]) rfl rfl rfl rfl ?_
    revert hv hc9 hs9; generalize c + mc2 = c4; generalize s + ms2 = s5; intro hc9 hs9 hv
    refine aw_istore (lv' := [(4, .int y2), (0, .ref x0), (1, .int x1), (2, .ref x2), (3, .int x3)]) dX5_next_22 (Nat.le_of_ble_eq_true rfl) rfl ?_
    refine aw_iload 0 dX5_next_24 rfl ?_
    refine aw_iconst (v := (-1)) dX5_next_26 (by decide) ?_
    refine aw_icmp_eq 39 dX5_next_27 (by decide) (fun c6 => ?_) (fun c6 => ?_)
    · have hv := hv.1 c6
      refine aw_iinc 4 (v := x3 + 1) (lv' := [(3, .int (x3 + 1)), (4, .int y2), (0, .ref x0), (1, .int x1), (2, .ref x2)]) dX5_next_39 rfl rfl (Nat.le_of_ble_eq_true rfl) rfl ?_
      refine aw_goto 11 dX5_next_42 (by decide) ?_
      refine aw_sub [2, 3, 4, 0] rfl ?_
      exact hv hc9 hs9
    · have hv := hv.2 c6
      refine aw_sipush (v := 1000) dX5_next_30 (by decide) ?_
      refine aw_iload_n 4 dX5_next_33 rfl rfl ?_
      refine aw_imul dX5_next_34 ?_
      refine aw_iload 0 dX5_next_35 rfl ?_
      refine aw_iadd dX5_next_37 ?_
      exact aw_iret rfl dX5_next_38 hv hc9 hs9
def V_X5_next_0 (l : Launch) (G : aG) (d mc ms : Nat) (P : aR → aH → Prop) (x0 : Nat) (x1 : Int32) (x2 : Nat) (h : aH) : Prop :=
  vIs h x0 5 (
  vC l G mX5_isBroken (wsN mX5_isBroken) d mc ms [.ref x0] h 0 0 (xP P) (kI fun y7 h8 c9 s10 => 
  (y7 = 0 → 
    T_X5_next_11 l G d mc ms P x0 x1 x2 1 h8 c9 s10
    ) ∧ (¬ y7 = 0 → 
    P (.inl (some (.int ((-1))))) h8
    )))
set_option maxHeartbeats 4000000 in
theorem A_X5_next {l : Launch} {G : aG} {d mc ms : Nat} {P : aR → aH → Prop} {x0 : Nat} {x1 : Int32} {x2 : Nat} {h : aH} (hl : l.stackTraces = false) (hv : V_X5_next_0 l G d mc ms P x0 x1 x2 h) : aC l G mX5_next (wsN mX5_next) d mc ms [.ref x0, .int x1, .ref x2] h P := by
  refine aC_ofF (M := mX5_next) rfl pX5_next (Nat.le_of_ble_eq_true rfl) hl ?_
  refine aw_eqv (lv2 := [(0, .ref x0), (1, .int x1), (2, .ref x2)]) rfl rfl rfl rfl ?_
  unfold V_X5_next_0 at hv
  refine aw_aload_n 0 (x := x0) dX5_next_0 rfl rfl ?_
  obtain ⟨⟨fs, he⟩, hv⟩ := hv
  obtain ⟨d2, mc2, ms2, Q, hM, hd9, hc9, hs9, hv, hx⟩ := hv
  refine aw_callV (rest := []) hM he rfl rfl nX5_isBroken q679 q619 q620 q132 q621 dX5_next_1 rfl hd9 (by decide) (Nat.le_of_ble_eq_true rfl) hc9 hs9 ?_ ?_
  rotate_left
  · exact fun E h2 q => aX_out (hx E h2 q) rfl hc9 hs9
  intro v9 h8 hq
  have hv := hv v9 h8 hq
  obtain ⟨y7, rfl, hv⟩ := hv
  refine aw_eqv (pc2 := 4) (st2 := [.int y7]) rfl rfl rfl rfl ?_
  revert hv hc9 hs9; generalize 0 + mc2 = c9; generalize 0 + ms2 = s10; intro hc9 hs9 hv
  refine aw_if_eq 9 dX5_next_4 (by decide) (fun c11 => ?_) (fun c11 => ?_)
  · have hv := hv.1 c11
    refine aw_iconst (v := 1) dX5_next_9 (by decide) ?_
    refine aw_istore_n (lv' := [(3, .int 1), (0, .ref x0), (1, .int x1), (2, .ref x2)]) dX5_next_10 rfl (Nat.le_of_ble_eq_true rfl) rfl ?_
    refine aw_sub [1, 2, 3, 0] rfl ?_
    exact hv hc9 hs9
  · have hv := hv.2 c11
    refine aw_iconst (v := (-1)) dX5_next_7 (by decide) ?_
    exact aw_iret rfl dX5_next_8 hv hc9 hs9
def V_X5_make_0 (l : Launch) (G : aG) (d mc ms : Nat) (P : aR → aH → Prop) (x0 : Nat) (x1 : Int32) (h : aH) : Prop :=
  vR h x0 5 1 fun a1 =>
  vA .int h a1 ((x1 - x1 / 1000 * 1000) / 10) fun y2 =>
  vSt .int h a1 ((x1 - x1 / 1000 * 1000) / 10) (y2 &&& (((1 : Int32) <<< ((x1 - x1 / 10 * 10) &&& 31)) ^^^ ((-1) : Int32))) fun h3 =>
  P (.inl (some (.int (x1 / 1000)))) h3
set_option maxHeartbeats 4000000 in
theorem A_X5_make {l : Launch} {G : aG} {d mc ms : Nat} {P : aR → aH → Prop} {x0 : Nat} {x1 : Int32} {h : aH} (hl : l.stackTraces = false) (hv : V_X5_make_0 l G d mc ms P x0 x1 h) : aC l G mX5_make (wsN mX5_make) d mc ms [.ref x0, .int x1] h P := by
  refine aC_ofF (M := mX5_make) rfl pX5_make (Nat.le_of_ble_eq_true rfl) hl ?_
  refine aw_eqv (lv2 := [(0, .ref x0), (1, .int x1)]) rfl rfl rfl rfl ?_
  unfold V_X5_make_0 at hv
  refine aw_aload_n 0 (x := x0) dX5_make_0 rfl rfl ?_
  obtain ⟨fs, a1, he, hx, hv⟩ := hv
  refine aw_get (v := .ref a1) he rfl in_X5 1 (by decide) q377 (Or.inl rfl) hx dX5_make_1 ?_
  refine aw_iload_n 1 dX5_make_4 rfl rfl ?_
  refine aw_sipush (v := 1000) dX5_make_5 (by decide) ?_
  refine aw_irem dX5_make_8 (by decide) ?_
  refine aw_bipush (v := 10) dX5_make_9 (by decide) ?_
  refine aw_idiv dX5_make_11 (by decide) ?_
  refine aw_dup2_11 dX5_make_12 rfl rfl ?_
  obtain ⟨n9, f9, he, hin, hv⟩ := hv
  refine aw_iald he hin dX5_make_13 ?_
  revert hv; generalize f9 (((x1 - x1 / 1000 * 1000) / 10)).toNatClampNeg = y2; intro hv
  refine aw_iconst (v := 1) dX5_make_14 (by decide) ?_
  refine aw_iload_n 1 dX5_make_15 rfl rfl ?_
  refine aw_bipush (v := 10) dX5_make_16 (by decide) ?_
  refine aw_irem dX5_make_18 (by decide) ?_
  refine aw_ishl dX5_make_19 ?_
  refine aw_iconst (v := (-1)) dX5_make_20 (by decide) ?_
  refine aw_ixor dX5_make_21 ?_
  refine aw_iand dX5_make_22 ?_
  obtain ⟨n9, f9, he, hin, hv⟩ := hv
  refine aw_iast he hin rfl dX5_make_23 ?_
  revert hv; generalize aUp h a1 (aInts .int n9 (upd f9 (((x1 - x1 / 1000 * 1000) / 10)).toNatClampNeg (y2 &&& (((1 : Int32) <<< ((x1 - x1 / 10 * 10) &&& 31)) ^^^ ((-1) : Int32))))) = h3; intro hv
  refine aw_iload_n 1 dX5_make_24 rfl rfl ?_
  refine aw_sipush (v := 1000) dX5_make_25 (by decide) ?_
  refine aw_idiv dX5_make_28 (by decide) ?_
  exact aw_iret rfl dX5_make_29 hv (Nat.zero_le _) (Nat.zero_le _)
def T_X5_stepAll_10 (l : Launch) (G : aG) (d mc ms : Nat) (P : aR → aH → Prop) (x0 : Nat) (x1 : Int32) (x2 : Nat) (x3 : Int32) (x4 : Int32) (h : aH) (c s : Nat) : Prop := c ≤ mc → s ≤ ms → AW l G mX5_stepAll d mc ms P 10 [(0, .ref x0), (1, .int x1), (2, .ref x2), (3, .int x3), (4, .int x4)] [] h c s
def V_X5_stepAll_10 (l : Launch) (G : aG) (d mc ms : Nat) (P : aR → aH → Prop) (x0 : Nat) (x1 : Int32) (x2 : Nat) (x3 : Int32) (x4 : Int32) (h : aH) (c s : Nat) : Prop :=
  (x4 = ((-1)) → 
    P (.inl (some (.int x3))) h
    ) ∧ (¬ x4 = ((-1)) → 
    vIs h x0 5 (
    vC l G mX5_make (wsN mX5_make) d mc ms [.ref x0, .int x4] h c s (xP P) (kI fun y2 h3 c4 s5 => 
    vIs h3 x0 5 (
    vC l G mX5_next (wsN mX5_next) d mc ms [.ref x0, .int x1, .ref x2] h3 c4 s5 (xP P) (kI fun y6 h7 c8 s9 => 
    T_X5_stepAll_10 l G d mc ms P x0 x1 x2 (x3 + 1) y6 h7 c8 s9))))
    )
set_option maxHeartbeats 4000000 in
theorem A_X5_stepAll_10 {l : Launch} {G : aG} {d mc ms : Nat} {P : aR → aH → Prop} {x0 : Nat} {x1 : Int32} {x2 : Nat} {x3 : Int32} {x4 : Int32} {h : aH} {c s : Nat} (hl : l.stackTraces = false) (hv : V_X5_stepAll_10 l G d mc ms P x0 x1 x2 x3 x4 h c s) : T_X5_stepAll_10 l G d mc ms P x0 x1 x2 x3 x4 h c s := by
  intro hc hs
  unfold V_X5_stepAll_10 at hv
  refine aw_iload 4 dX5_stepAll_10 rfl ?_
  refine aw_iconst (v := (-1)) dX5_stepAll_12 (by decide) ?_
  refine aw_icmp_eq 38 dX5_stepAll_13 (by decide) (fun c1 => ?_) (fun c1 => ?_)
  · have hv := hv.1 c1
    refine aw_iload_n 3 dX5_stepAll_38 rfl rfl ?_
    exact aw_iret rfl dX5_stepAll_39 hv hc hs
  · have hv := hv.2 c1
    refine aw_aload_n 0 (x := x0) dX5_stepAll_16 rfl rfl ?_
    refine aw_iload 4 dX5_stepAll_17 rfl ?_
    obtain ⟨⟨fs, he⟩, hv⟩ := hv
    obtain ⟨d2, mc2, ms2, Q, hM, hd9, hc9, hs9, hv, hx⟩ := hv
    refine aw_callV (rest := []) hM he rfl rfl nX5_make q768 q769 q770 q132 q771 dX5_stepAll_19 rfl hd9 (by decide) (Nat.le_of_ble_eq_true rfl) hc9 hs9 ?_ ?_
    rotate_left
    · exact fun E h2 q => aX_out (hx E h2 q) rfl hc9 hs9
    intro v9 h3 hq
    have hv := hv v9 h3 hq
    obtain ⟨y2, rfl, hv⟩ := hv
    refine aw_eqv (pc2 := 22) (st2 := [.int y2]) rfl rfl rfl rfl ?_
    revert hv hc9 hs9; generalize c + mc2 = c4; generalize s + ms2 = s5; intro hc9 hs9 hv
    refine aw_istore (lv' := [(5, .int y2), (0, .ref x0), (1, .int x1), (2, .ref x2), (3, .int x3), (4, .int x4)]) dX5_stepAll_22 (Nat.le_of_ble_eq_true rfl) rfl ?_
    refine aw_iinc 4 (v := x3 + 1) (lv' := [(3, .int (x3 + 1)), (5, .int y2), (0, .ref x0), (1, .int x1), (2, .ref x2), (4, .int x4)]) dX5_stepAll_24 rfl rfl (Nat.le_of_ble_eq_true rfl) rfl ?_
    refine aw_aload_n 2 (x := x0) dX5_stepAll_27 rfl rfl ?_
    refine aw_iload_n 3 dX5_stepAll_28 rfl rfl ?_
    refine aw_aload_n 4 (x := x2) dX5_stepAll_29 rfl rfl ?_
    obtain ⟨⟨fs, he⟩, hv⟩ := hv
    obtain ⟨d2, mc2, ms2, Q, hM, hd9, hc9, hs9, hv, hx⟩ := hv
    refine aw_callV (rest := []) hM he rfl rfl nX5_next q767 q693 q694 q132 q695 dX5_stepAll_30 rfl hd9 (by decide) (Nat.le_of_ble_eq_true rfl) hc9 hs9 ?_ ?_
    rotate_left
    · exact fun E h2 q => aX_out (hx E h2 q) rfl hc9 hs9
    intro v9 h7 hq
    have hv := hv v9 h7 hq
    obtain ⟨y6, rfl, hv⟩ := hv
    refine aw_eqv (pc2 := 33) (st2 := [.int y6]) rfl rfl rfl rfl ?_
    revert hv hc9 hs9; generalize c4 + mc2 = c8; generalize s5 + ms2 = s9; intro hc9 hs9 hv
    refine aw_istore (lv' := [(4, .int y6), (3, .int (x3 + 1)), (5, .int y2), (0, .ref x0), (1, .int x1), (2, .ref x2)]) dX5_stepAll_33 (Nat.le_of_ble_eq_true rfl) rfl ?_
    refine aw_goto 10 dX5_stepAll_35 (by decide) ?_
    refine aw_sub [3, 4, 5, 1, 0] rfl ?_
    exact hv hc9 hs9
def V_X5_stepAll_0 (l : Launch) (G : aG) (d mc ms : Nat) (P : aR → aH → Prop) (x0 : Nat) (x1 : Int32) (x2 : Nat) (h : aH) : Prop :=
  vIs h x0 5 (
  vC l G mX5_next (wsN mX5_next) d mc ms [.ref x0, .int x1, .ref x2] h 0 0 (xP P) (kI fun y10 h11 c12 s13 => 
  T_X5_stepAll_10 l G d mc ms P x0 x1 x2 0 y10 h11 c12 s13))
set_option maxHeartbeats 4000000 in
theorem A_X5_stepAll {l : Launch} {G : aG} {d mc ms : Nat} {P : aR → aH → Prop} {x0 : Nat} {x1 : Int32} {x2 : Nat} {h : aH} (hl : l.stackTraces = false) (hv : V_X5_stepAll_0 l G d mc ms P x0 x1 x2 h) : aC l G mX5_stepAll (wsN mX5_stepAll) d mc ms [.ref x0, .int x1, .ref x2] h P := by
  refine aC_ofF (M := mX5_stepAll) rfl pX5_stepAll (Nat.le_of_ble_eq_true rfl) hl ?_
  refine aw_eqv (lv2 := [(0, .ref x0), (1, .int x1), (2, .ref x2)]) rfl rfl rfl rfl ?_
  unfold V_X5_stepAll_0 at hv
  refine aw_iconst (v := 0) dX5_stepAll_0 (by decide) ?_
  refine aw_istore_n (lv' := [(3, .int 0), (0, .ref x0), (1, .int x1), (2, .ref x2)]) dX5_stepAll_1 rfl (Nat.le_of_ble_eq_true rfl) rfl ?_
  refine aw_aload_n 1 (x := x0) dX5_stepAll_2 rfl rfl ?_
  refine aw_iload_n 2 dX5_stepAll_3 rfl rfl ?_
  refine aw_aload_n 3 (x := x2) dX5_stepAll_4 rfl rfl ?_
  obtain ⟨⟨fs, he⟩, hv⟩ := hv
  obtain ⟨d2, mc2, ms2, Q, hM, hd9, hc9, hs9, hv, hx⟩ := hv
  refine aw_callV (rest := []) hM he rfl rfl nX5_next q767 q693 q694 q132 q695 dX5_stepAll_5 rfl hd9 (by decide) (Nat.le_of_ble_eq_true rfl) hc9 hs9 ?_ ?_
  rotate_left
  · exact fun E h2 q => aX_out (hx E h2 q) rfl hc9 hs9
  intro v9 h11 hq
  have hv := hv v9 h11 hq
  obtain ⟨y10, rfl, hv⟩ := hv
  refine aw_eqv (pc2 := 8) (st2 := [.int y10]) rfl rfl rfl rfl ?_
  revert hv hc9 hs9; generalize 0 + mc2 = c12; generalize 0 + ms2 = s13; intro hc9 hs9 hv
  refine aw_istore (lv' := [(4, .int y10), (3, .int 0), (0, .ref x0), (1, .int x1), (2, .ref x2)]) dX5_stepAll_8 (Nat.le_of_ble_eq_true rfl) rfl ?_
  refine aw_sub [2, 3, 4, 1, 0] rfl ?_
  exact hv hc9 hs9
def T_X5_nextCell_4 (l : Launch) (G : aG) (d mc ms : Nat) (P : aR → aH → Prop) (x0 : Nat) (x1 : Int32) (x2 : Int32) (x3 : Int32) (h : aH) (c s : Nat) : Prop := c ≤ mc → s ≤ ms → AW l G mX5_nextCell d mc ms P 4 [(0, .ref x0), (1, .int x1), (2, .int x2), (3, .int x3)] [] h c s
def T_X5_nextCell_50 (l : Launch) (G : aG) (d mc ms : Nat) (P : aR → aH → Prop) (x0 : Nat) (x1 : Int32) (x2 : Int32) (x3 : Int32) (xs0 : Int32) (h : aH) (c s : Nat) : Prop := c ≤ mc → s ≤ ms → AW l G mX5_nextCell d mc ms P 50 [(0, .ref x0), (1, .int x1), (2, .int x2), (3, .int x3)] [.int xs0] h c s
def V_X5_nextCell_4 (l : Launch) (G : aG) (d mc ms : Nat) (P : aR → aH → Prop) (x0 : Nat) (x1 : Int32) (x2 : Int32) (x3 : Int32) (h : aH) (c s : Nat) : Prop :=
  vR h x0 5 0 fun a1 =>
  vIs h a1 3 (
  vC l G mX3_cellCount (wsN mX3_cellCount) d mc ms [.ref a1] h c s (xP P) (kI fun y2 h3 c4 s5 => 
  (y2 ≤ x3 → 
    P (.inl (some (.int x2))) h3
    ) ∧ (¬ y2 ≤ x3 → 
    (x2 = ((-1)) → 
      T_X5_nextCell_50 l G d mc ms P x0 x1 x2 x3 1 h3 c4 s5
      ) ∧ (¬ x2 = ((-1)) → 
      (¬ x1 = 0 → 
        T_X5_nextCell_50 l G d mc ms P x0 x1 x2 x3 0 h3 c4 s5
        ) ∧ (x1 = 0 → 
        vR h3 x0 5 1 fun a9 =>
        vA .int h3 a9 x3 fun y10 =>
        vC l G mJ6_bitCount (wsN mJ6_bitCount) d mc ms [.int y10] h3 c4 s5 (xP P) (kI fun y11 h12 c13 s14 => 
        vR h12 x0 5 1 fun a15 =>
        vA .int h12 a15 x2 fun y16 =>
        vC l G mJ6_bitCount (wsN mJ6_bitCount) d mc ms [.int y16] h12 c13 s14 (xP P) (kI fun y17 h18 c19 s20 => 
        T_X5_nextCell_50 l G d mc ms P x0 x1 x2 x3 (if y17 ≤ y11 then (0 : Int32) else 1) h18 c19 s20))
        )
      )
    )))
set_option maxHeartbeats 4000000 in
theorem A_X5_nextCell_4 {l : Launch} {G : aG} {d mc ms : Nat} {P : aR → aH → Prop} {x0 : Nat} {x1 : Int32} {x2 : Int32} {x3 : Int32} {h : aH} {c s : Nat} (hl : l.stackTraces = false) (hv : V_X5_nextCell_4 l G d mc ms P x0 x1 x2 x3 h c s) : T_X5_nextCell_4 l G d mc ms P x0 x1 x2 x3 h c s := by
  intro hc hs
  unfold V_X5_nextCell_4 at hv
  refine aw_iload_n 3 dX5_nextCell_4 rfl rfl ?_
  refine aw_aload_n 0 (x := x0) dX5_nextCell_5 rfl rfl ?_
  obtain ⟨fs, a1, he, hx, hv⟩ := hv
  refine aw_get (v := .ref a1) he rfl in_X5 0 (by decide) q376 (Or.inl rfl) hx dX5_nextCell_6 ?_
  obtain ⟨⟨fs, he⟩, hv⟩ := hv
  obtain ⟨d2, mc2, ms2, Q, hM, hd9, hc9, hs9, hv, hx⟩ := hv
  refine aw_callV (rest := [.int x3]) hM he rfl rfl nX3_cellCount q368 q369 q370 q121 q371 dX5_nextCell_9 rfl hd9 (by decide) (Nat.le_of_ble_eq_true rfl) hc9 hs9 ?_ ?_
  rotate_left
  · exact fun E h2 q => aX_out (hx E h2 q) rfl hc9 hs9
  intro v9 h3 hq
  have hv := hv v9 h3 hq
  obtain ⟨y2, rfl, hv⟩ := hv
  refine aw_eqv (pc2 := 12) (st2 := [.int y2, .int x3]) rfl rfl rfl rfl ?_
  revert hv hc9 hs9; generalize c + mc2 = c4; generalize s + ms2 = s5; intro hc9 hs9 hv
  refine aw_icmp_ge 77 dX5_nextCell_12 (by decide) (fun c6 => ?_) (fun c6 => ?_)
  · have hv := hv.1 c6
    refine aw_iload_n 2 dX5_nextCell_77 rfl rfl ?_
    exact aw_iret rfl dX5_nextCell_78 hv hc9 hs9
  · have hv := hv.2 c6
    refine aw_iload_n 2 dX5_nextCell_15 rfl rfl ?_
    refine aw_iconst (v := (-1)) dX5_nextCell_16 (by decide) ?_
    refine aw_icmp_eq 45 dX5_nextCell_17 (by decide) (fun c7 => ?_) (fun c7 => ?_)
    · have hv := hv.1 c7
      refine aw_iconst (v := 1) dX5_nextCell_45 (by decide) ?_
      refine aw_goto 50 dX5_nextCell_46 (by decide) ?_
      exact hv hc9 hs9
    · have hv := hv.2 c7
      refine aw_iload_n 1 dX5_nextCell_20 rfl rfl ?_
      refine aw_if_ne 49 dX5_nextCell_21 (by decide) (fun c8 => ?_) (fun c8 => ?_)
      · have hv := hv.1 c8
        refine aw_iconst (v := 0) dX5_nextCell_49 (by decide) ?_
        exact hv hc9 hs9
      · have hv := hv.2 c8
        refine aw_aload_n 0 (x := x0) dX5_nextCell_24 rfl rfl ?_
        obtain ⟨fs, a9, he, hx, hv⟩ := hv
        refine aw_get (v := .ref a9) he rfl in_X5 1 (by decide) q377 (Or.inl rfl) hx dX5_nextCell_25 ?_
        refine aw_iload_n 3 dX5_nextCell_28 rfl rfl ?_
        obtain ⟨n9, f9, he, hin, hv⟩ := hv
        refine aw_iald he hin dX5_nextCell_29 ?_
        revert hv; generalize f9 (x3).toNatClampNeg = y10; intro hv
        obtain ⟨d2, mc2, ms2, Q, hM, hd9, hc9, hs9, hv, hx⟩ := hv
        refine aw_callS (rest := []) hM nJ6_bitCount q746 q292 q131 q293 dX5_nextCell_30 rfl hd9 (by decide) (Nat.le_of_ble_eq_true rfl) hc9 hs9 ?_ ?_
        rotate_left
        · exact fun E h2 q => aX_out (hx E h2 q) rfl hc9 hs9
        intro v9 h12 hq
        have hv := hv v9 h12 hq
        obtain ⟨y11, rfl, hv⟩ := hv
        refine aw_eqv (pc2 := 33) (st2 := [.int y11]) rfl rfl rfl rfl ?_
        revert hv hc9 hs9; generalize c4 + mc2 = c13; generalize s5 + ms2 = s14; intro hc9 hs9 hv
        refine aw_aload_n 0 (x := x0) dX5_nextCell_33 rfl rfl ?_
        obtain ⟨fs, a15, he, hx, hv⟩ := hv
        refine aw_get (v := .ref a15) he rfl in_X5 1 (by decide) q377 (Or.inl rfl) hx dX5_nextCell_34 ?_
        refine aw_iload_n 2 dX5_nextCell_37 rfl rfl ?_
        obtain ⟨n9, f9, he, hin, hv⟩ := hv
        refine aw_iald he hin dX5_nextCell_38 ?_
        revert hv; generalize f9 (x2).toNatClampNeg = y16; intro hv
        obtain ⟨d2, mc2, ms2, Q, hM, hd9, hc9, hs9, hv, hx⟩ := hv
        refine aw_callS (rest := [.int y11]) hM nJ6_bitCount q746 q292 q131 q293 dX5_nextCell_39 rfl hd9 (by decide) (Nat.le_of_ble_eq_true rfl) hc9 hs9 ?_ ?_
        rotate_left
        · exact fun E h2 q => aX_out (hx E h2 q) rfl hc9 hs9
        intro v9 h18 hq
        have hv := hv v9 h18 hq
        obtain ⟨y17, rfl, hv⟩ := hv
        refine aw_eqv (pc2 := 42) (st2 := [.int y17, .int y11]) rfl rfl rfl rfl ?_
        revert hv hc9 hs9; generalize c13 + mc2 = c19; generalize s14 + ms2 = s20; intro hc9 hs9 hv
        have J9 : AW l G mX5_nextCell d mc ms P 50 [(0, .ref x0), (1, .int x1), (2, .int x2), (3, .int x3)] [.int (if y17 ≤ y11 then (0 : Int32) else 1)] h18 c19 s20 := by
          exact hv hc9 hs9
        refine aw_icmp_ge 49 dX5_nextCell_42 (by decide) (fun c21 => ?_) (fun c21 => ?_)
        · have J9 := aw_ifT c21 J9
          refine aw_iconst (v := 0) dX5_nextCell_49 (by decide) ?_
          exact J9
        · have J9 := aw_ifF c21 J9
          refine aw_iconst (v := 1) dX5_nextCell_45 (by decide) ?_
          refine aw_goto 50 dX5_nextCell_46 (by decide) ?_
          exact J9
def V_X5_nextCell_50 (l : Launch) (G : aG) (d mc ms : Nat) (P : aR → aH → Prop) (x0 : Nat) (x1 : Int32) (x2 : Int32) (x3 : Int32) (xs0 : Int32) (h : aH) (c s : Nat) : Prop :=
  vIs h x0 5 (
  vC l G mX5_isSettled (wsN mX5_isSettled) d mc ms [.ref x0, .int x3] h c s (xP P) (kI fun y22 h23 c24 s25 => 
  ∀ v28 : Int32, v28 = (if y22 = 0 then (if xs0 = 0 then x2 else x3) else x2) →
  T_X5_nextCell_4 l G d mc ms P x0 x1 v28 (x3 + 1) h23 c24 s25))
set_option maxHeartbeats 4000000 in
theorem A_X5_nextCell_50 {l : Launch} {G : aG} {d mc ms : Nat} {P : aR → aH → Prop} {x0 : Nat} {x1 : Int32} {x2 : Int32} {x3 : Int32} {xs0 : Int32} {h : aH} {c s : Nat} (hl : l.stackTraces = false) (hv : V_X5_nextCell_50 l G d mc ms P x0 x1 x2 x3 xs0 h c s) : T_X5_nextCell_50 l G d mc ms P x0 x1 x2 x3 xs0 h c s := by
  intro hc hs
  unfold V_X5_nextCell_50 at hv
  refine aw_istore (lv' := [(4, .int xs0), (0, .ref x0), (1, .int x1), (2, .int x2), (3, .int x3)]) dX5_nextCell_50 (Nat.le_of_ble_eq_true rfl) rfl ?_
  refine aw_aload_n 1 (x := x0) dX5_nextCell_52 rfl rfl ?_
  refine aw_iload_n 4 dX5_nextCell_53 rfl rfl ?_
  obtain ⟨⟨fs, he⟩, hv⟩ := hv
  obtain ⟨d2, mc2, ms2, Q, hM, hd9, hc9, hs9, hv, hx⟩ := hv
  refine aw_callV (rest := []) hM he rfl rfl nX5_isSettled q678 q610 q611 q132 q612 dX5_nextCell_54 rfl hd9 (by decide) (Nat.le_of_ble_eq_true rfl) hc9 hs9 ?_ ?_
  rotate_left
  · exact fun E h2 q => aX_out (hx E h2 q) rfl hc9 hs9
  intro v9 h23 hq
  have hv := hv v9 h23 hq
  obtain ⟨y22, rfl, hv⟩ := hv
  refine aw_eqv (pc2 := 57) (st2 := [.int y22]) rfl rfl rfl rfl ?_
  revert hv hc9 hs9; generalize c + mc2 = c24; generalize s + ms2 = s25; intro hc9 hs9 hv
  have J9 : AW l G mX5_nextCell d mc ms P 70 [(4, .int xs0), (0, .ref x0), (1, .int x1), (2, .int x2), (3, .int x3)] [.int (if y22 = 0 then (if xs0 = 0 then x2 else x3) else x2)] h23 c24 s25 := by
    refine aw_topi (fun v28 ev28 => ?_)
    have hv := hv v28 ev28
    refine aw_istore_n (lv' := [(2, .int v28), (4, .int xs0), (0, .ref x0), (1, .int x1), (3, .int x3)]) dX5_nextCell_70 rfl (Nat.le_of_ble_eq_true rfl) rfl ?_
    refine aw_iinc 4 (v := x3 + 1) (lv' := [(3, .int (x3 + 1)), (2, .int v28), (4, .int xs0), (0, .ref x0), (1, .int x1)]) dX5_nextCell_71 rfl rfl (Nat.le_of_ble_eq_true rfl) rfl ?_
    refine aw_goto 4 dX5_nextCell_74 (by decide) ?_
    refine aw_sub [3, 4, 1, 0] rfl ?_
    exact hv hc9 hs9
  refine aw_if_ne 69 dX5_nextCell_57 (by decide) (fun c26 => ?_) (fun c26 => ?_)
  · have J9 := aw_ifF c26 J9
    refine aw_iload_n 3 dX5_nextCell_69 rfl rfl ?_
    exact J9
  · have J9 := aw_ifT c26 J9
    refine aw_iload 0 dX5_nextCell_60 rfl ?_
    refine aw_if_eq 69 dX5_nextCell_62 (by decide) (fun c27 => ?_) (fun c27 => ?_)
    · have J9 := aw_ifT c27 J9
      refine aw_iload_n 3 dX5_nextCell_69 rfl rfl ?_
      exact J9
    · have J9 := aw_ifF c27 J9
      refine aw_iload_n 4 dX5_nextCell_65 rfl rfl ?_
      refine aw_goto 70 dX5_nextCell_66 (by decide) ?_
      exact J9
def V_X5_nextCell_0 (l : Launch) (G : aG) (d mc ms : Nat) (P : aR → aH → Prop) (x0 : Nat) (x1 : Int32) (h : aH) : Prop :=
  T_X5_nextCell_4 l G d mc ms P x0 x1 ((-1)) 0 h 0 0
set_option maxHeartbeats 4000000 in
theorem A_X5_nextCell {l : Launch} {G : aG} {d mc ms : Nat} {P : aR → aH → Prop} {x0 : Nat} {x1 : Int32} {h : aH} (hl : l.stackTraces = false) (hv : V_X5_nextCell_0 l G d mc ms P x0 x1 h) : aC l G mX5_nextCell (wsN mX5_nextCell) d mc ms [.ref x0, .int x1] h P := by
  refine aC_ofF (M := mX5_nextCell) rfl pX5_nextCell (Nat.le_of_ble_eq_true rfl) hl ?_
  refine aw_eqv (lv2 := [(0, .ref x0), (1, .int x1)]) rfl rfl rfl rfl ?_
  unfold V_X5_nextCell_0 at hv
  refine aw_iconst (v := (-1)) dX5_nextCell_0 (by decide) ?_
  refine aw_istore_n (lv' := [(2, .int ((-1))), (0, .ref x0), (1, .int x1)]) dX5_nextCell_1 rfl (Nat.le_of_ble_eq_true rfl) rfl ?_
  refine aw_iconst (v := 0) dX5_nextCell_2 (by decide) ?_
  refine aw_istore_n (lv' := [(3, .int 0), (2, .int ((-1))), (0, .ref x0), (1, .int x1)]) dX5_nextCell_3 rfl (Nat.le_of_ble_eq_true rfl) rfl ?_
  refine aw_sub [2, 3, 1, 0] rfl ?_
  exact hv (Nat.zero_le _) (Nat.zero_le _)
def T_X5_isBrokenAt_12 (l : Launch) (G : aG) (d mc ms : Nat) (P : aR → aH → Prop) (x0 : Nat) (x2 : Int32) (x3 : Int32) (h : aH) (c s : Nat) : Prop := c ≤ mc → s ≤ ms → AW l G mX5_isBrokenAt d mc ms P 12 [(0, .ref x0), (2, .int x2), (3, .int x3)] [] h c s
def V_X5_isBrokenAt_12 (l : Launch) (G : aG) (d mc ms : Nat) (P : aR → aH → Prop) (x0 : Nat) (x2 : Int32) (x3 : Int32) (h : aH) (c s : Nat) : Prop :=
  (x3 = 0 → 
    vB x2 ∧ P (.inl (some (.int x2))) h
    ) ∧ (¬ x3 = 0 → 
    (¬ x2 = 0 → 
      vB x2 ∧ P (.inl (some (.int x2))) h
      ) ∧ (x2 = 0 → 
      vC l G mJ6_numberOfTrailingZeros (wsN mJ6_numberOfTrailingZeros) d mc ms [.int x3] h c s (xP P) (kI fun y5 h6 c7 s8 => 
      vIs h6 x0 5 (
      vC l G mX5_isLineBroken (wsN mX5_isLineBroken) d mc ms [.ref x0, .int y5] h6 c7 s8 (xP P) (kI fun y9 h10 c11 s12 => 
      T_X5_isBrokenAt_12 l G d mc ms P x0 y9 (x3 &&& (x3 - (1 : Int32))) h10 c11 s12)))
      )
    )
set_option maxHeartbeats 4000000 in
theorem A_X5_isBrokenAt_12 {l : Launch} {G : aG} {d mc ms : Nat} {P : aR → aH → Prop} {x0 : Nat} {x2 : Int32} {x3 : Int32} {h : aH} {c s : Nat} (hl : l.stackTraces = false) (hv : V_X5_isBrokenAt_12 l G d mc ms P x0 x2 x3 h c s) : T_X5_isBrokenAt_12 l G d mc ms P x0 x2 x3 h c s := by
  intro hc hs
  unfold V_X5_isBrokenAt_12 at hv
  refine aw_iload_n 2 dX5_isBrokenAt_12 rfl rfl ?_
  refine aw_if_eq 38 dX5_isBrokenAt_13 (by decide) (fun c1 => ?_) (fun c1 => ?_)
  · have hv := hv.1 c1
    refine aw_iload_n 1 dX5_isBrokenAt_38 rfl rfl ?_
    obtain ⟨z2, hv⟩ := hv
    exact aw_zret rfl z2.nar dX5_isBrokenAt_39 hv hc hs
  · have hv := hv.2 c1
    refine aw_iload_n 1 dX5_isBrokenAt_16 rfl rfl ?_
    refine aw_if_ne 38 dX5_isBrokenAt_17 (by decide) (fun c3 => ?_) (fun c3 => ?_)
    · have hv := hv.1 c3
      refine aw_iload_n 1 dX5_isBrokenAt_38 rfl rfl ?_
      obtain ⟨z4, hv⟩ := hv
      exact aw_zret rfl z4.nar dX5_isBrokenAt_39 hv hc hs
    · have hv := hv.2 c3
      refine aw_aload_n 0 (x := x0) dX5_isBrokenAt_20 rfl rfl ?_
      refine aw_iload_n 2 dX5_isBrokenAt_21 rfl rfl ?_
      obtain ⟨d2, mc2, ms2, Q, hM, hd9, hc9, hs9, hv, hx⟩ := hv
      refine aw_callS (rest := [.ref x0]) hM nJ6_numberOfTrailingZeros q700 q543 q131 q544 dX5_isBrokenAt_22 rfl hd9 (by decide) (Nat.le_of_ble_eq_true rfl) hc9 hs9 ?_ ?_
      rotate_left
      · exact fun E h2 q => aX_out (hx E h2 q) rfl hc9 hs9
      intro v9 h6 hq
      have hv := hv v9 h6 hq
      obtain ⟨y5, rfl, hv⟩ := hv
      refine aw_eqv (pc2 := 25) (st2 := [.int y5, .ref x0]) rfl rfl rfl rfl ?_
      revert hv hc9 hs9; generalize c + mc2 = c7; generalize s + ms2 = s8; intro hc9 hs9 hv
      obtain ⟨⟨fs, he⟩, hv⟩ := hv
      obtain ⟨d2, mc2, ms2, Q, hM, hd9, hc9, hs9, hv, hx⟩ := hv
      refine aw_callV (rest := []) hM he rfl rfl nX5_isLineBroken q623 q624 q625 q132 q626 dX5_isBrokenAt_25 rfl hd9 (by decide) (Nat.le_of_ble_eq_true rfl) hc9 hs9 ?_ ?_
      rotate_left
      · exact fun E h2 q => aX_out (hx E h2 q) rfl hc9 hs9
      intro v9 h10 hq
      have hv := hv v9 h10 hq
      obtain ⟨y9, rfl, hv⟩ := hv
      refine aw_eqv (pc2 := 28) (st2 := [.int y9]) rfl rfl rfl rfl ?_
      revert hv hc9 hs9; generalize c7 + mc2 = c11; generalize s8 + ms2 = s12; intro hc9 hs9 hv
      refine aw_istore_n (lv' := [(2, .int y9), (0, .ref x0), (3, .int x3)]) dX5_isBrokenAt_28 rfl (Nat.le_of_ble_eq_true rfl) rfl ?_
      refine aw_iload_n 2 dX5_isBrokenAt_29 rfl rfl ?_
      refine aw_iload_n 2 dX5_isBrokenAt_30 rfl rfl ?_
      refine aw_iconst (v := 1) dX5_isBrokenAt_31 (by decide) ?_
      refine aw_isub dX5_isBrokenAt_32 ?_
      refine aw_iand dX5_isBrokenAt_33 ?_
      refine aw_istore_n (lv' := [(3, .int (x3 &&& (x3 - (1 : Int32)))), (2, .int y9), (0, .ref x0)]) dX5_isBrokenAt_34 rfl (Nat.le_of_ble_eq_true rfl) rfl ?_
      refine aw_goto 12 dX5_isBrokenAt_35 (by decide) ?_
      refine aw_sub [2, 1, 0] rfl ?_
      exact hv hc9 hs9
def V_X5_isBrokenAt_0 (l : Launch) (G : aG) (d mc ms : Nat) (P : aR → aH → Prop) (x0 : Nat) (x1 : Int32) (h : aH) : Prop :=
  vR h x0 5 0 fun a13 =>
  vR h a13 3 2 fun a14 =>
  vA .int h a14 x1 fun y15 =>
  T_X5_isBrokenAt_12 l G d mc ms P x0 0 y15 h 0 0
set_option maxHeartbeats 4000000 in
theorem A_X5_isBrokenAt {l : Launch} {G : aG} {d mc ms : Nat} {P : aR → aH → Prop} {x0 : Nat} {x1 : Int32} {h : aH} (hl : l.stackTraces = false) (hv : V_X5_isBrokenAt_0 l G d mc ms P x0 x1 h) : aC l G mX5_isBrokenAt (wsN mX5_isBrokenAt) d mc ms [.ref x0, .int x1] h P := by
  refine aC_ofF (M := mX5_isBrokenAt) rfl pX5_isBrokenAt (Nat.le_of_ble_eq_true rfl) hl ?_
  refine aw_eqv (lv2 := [(0, .ref x0), (1, .int x1)]) rfl rfl rfl rfl ?_
  unfold V_X5_isBrokenAt_0 at hv
  refine aw_iconst (v := 0) dX5_isBrokenAt_0 (by decide) ?_
  refine aw_istore_n (lv' := [(2, .int 0), (0, .ref x0), (1, .int x1)]) dX5_isBrokenAt_1 rfl (Nat.le_of_ble_eq_true rfl) rfl ?_
  refine aw_aload_n 1 (x := x0) dX5_isBrokenAt_2 rfl rfl ?_
  obtain ⟨fs, a13, he, hx, hv⟩ := hv
  refine aw_get (v := .ref a13) he rfl in_X5 0 (by decide) q376 (Or.inl rfl) hx dX5_isBrokenAt_3 ?_
  obtain ⟨fs, a14, he, hx, hv⟩ := hv
  refine aw_getN (v := .ref a14) he rfl in_X3 2 (by decide) q327 (Or.inl rfl) hx dX5_isBrokenAt_6 ?_
  refine aw_iload_n 2 dX5_isBrokenAt_9 rfl rfl ?_
  obtain ⟨n9, f9, he, hin, hv⟩ := hv
  refine aw_iald he hin dX5_isBrokenAt_10 ?_
  revert hv; generalize f9 (x1).toNatClampNeg = y15; intro hv
  refine aw_istore_n (lv' := [(3, .int y15), (2, .int 0), (0, .ref x0), (1, .int x1)]) dX5_isBrokenAt_11 rfl (Nat.le_of_ble_eq_true rfl) rfl ?_
  refine aw_sub [2, 1, 0] rfl ?_
  exact hv (Nat.zero_le _) (Nat.zero_le _)
def T_X5_search_32 (l : Launch) (G : aG) (d mc ms : Nat) (P : aR → aH → Prop) (x0 : Nat) (x1 : Int32) (x2 : Nat) (x3 : Int32) (x4 : Int32) (x5 : Int32) (h : aH) (c s : Nat) : Prop := c ≤ mc → s ≤ ms → AW l G mX5_search d mc ms P 32 [(0, .ref x0), (1, .int x1), (2, .ref x2), (3, .int x3), (4, .int x4), (5, .int x5)] [] h c s
def V_X5_search_32 (l : Launch) (G : aG) (d mc ms : Nat) (P : aR → aH → Prop) (x0 : Nat) (x1 : Int32) (x2 : Nat) (x3 : Int32) (x4 : Int32) (x5 : Int32) (h : aH) (c s : Nat) : Prop :=
  (x5 = 0 → 
    vR h x0 5 1 fun a2 =>
    vSt .int h a2 x3 x4 fun h3 =>
    P (.inl none) h3
    ) ∧ (¬ x5 = 0 → 
    vI h x2 7 2 fun y4 =>
    vI h x2 7 0 fun y5 =>
    (y5 ≤ y4 → 
      vR h x0 5 1 fun a7 =>
      vSt .int h a7 x3 x4 fun h8 =>
      P (.inl none) h8
      ) ∧ (¬ y5 ≤ y4 → 
      vR h x0 5 1 fun a9 =>
      vC l G mJ6_lowestOneBit (wsN mJ6_lowestOneBit) d mc ms [.int x5] h c s (xP P) (kI fun y10 h11 c12 s13 => 
      vSt .int h11 a9 x3 y10 fun h14 =>
      vIs h14 x0 5 (
      vC l G mX5_isBrokenAt (wsN mX5_isBrokenAt) d mc ms [.ref x0, .int x3] h14 c12 s13 (xP P) (kI fun y15 h16 c17 s18 => 
      (¬ y15 = 0 → 
        T_X5_search_32 l G d mc ms P x0 x1 x2 x3 x4 (x5 &&& (x5 - (1 : Int32))) h16 c17 s18
        ) ∧ (y15 = 0 → 
        vIs h16 x0 5 (
        vC l G mX5_search (wsN mX5_search) d mc ms [.ref x0, .int x1, .ref x2] h16 c17 s18 (xP P) (kV fun h21 c22 s23 => 
        T_X5_search_32 l G d mc ms P x0 x1 x2 x3 x4 (x5 &&& (x5 - (1 : Int32))) h21 c22 s23))
        ))))
      )
    )
set_option maxHeartbeats 4000000 in
theorem A_X5_search_32 {l : Launch} {G : aG} {d mc ms : Nat} {P : aR → aH → Prop} {x0 : Nat} {x1 : Int32} {x2 : Nat} {x3 : Int32} {x4 : Int32} {x5 : Int32} {h : aH} {c s : Nat} (hl : l.stackTraces = false) (hv : V_X5_search_32 l G d mc ms P x0 x1 x2 x3 x4 x5 h c s) : T_X5_search_32 l G d mc ms P x0 x1 x2 x3 x4 x5 h c s := by
  intro hc hs
  unfold V_X5_search_32 at hv
  refine aw_iload 5 dX5_search_32 rfl ?_
  refine aw_if_eq 85 dX5_search_34 (by decide) (fun c1 => ?_) (fun c1 => ?_)
  · have hv := hv.1 c1
    refine aw_aload_n 0 (x := x0) dX5_search_85 rfl rfl ?_
    obtain ⟨fs, a2, he, hx, hv⟩ := hv
    refine aw_get (v := .ref a2) he rfl in_X5 1 (by decide) q377 (Or.inl rfl) hx dX5_search_86 ?_
    refine aw_iload_n 3 dX5_search_89 rfl rfl ?_
    refine aw_iload 4 dX5_search_90 rfl ?_
    obtain ⟨n9, f9, he, hin, hv⟩ := hv
    refine aw_iast he hin rfl dX5_search_92 ?_
    revert hv; generalize aUp h a2 (aInts .int n9 (upd f9 (x3).toNatClampNeg x4)) = h3; intro hv
    exact aw_vret rfl dX5_search_93 hv hc hs
  · have hv := hv.2 c1
    refine aw_aload_n 2 (x := x2) dX5_search_37 rfl rfl ?_
    obtain ⟨fs, y4, he, hx, hv⟩ := hv
    refine aw_getN (v := .int y4) he rfl in_X8 2 (by decide) q796 (Or.inl rfl) hx dX5_search_38 ?_
    refine aw_aload_n 2 (x := x2) dX5_search_41 rfl rfl ?_
    obtain ⟨fs, y5, he, hx, hv⟩ := hv
    refine aw_getN (v := .int y5) he rfl in_X8 0 (by decide) q792 (Or.inl rfl) hx dX5_search_42 ?_
    refine aw_icmp_ge 85 dX5_search_45 (by decide) (fun c6 => ?_) (fun c6 => ?_)
    · have hv := hv.1 c6
      refine aw_aload_n 0 (x := x0) dX5_search_85 rfl rfl ?_
      obtain ⟨fs, a7, he, hx, hv⟩ := hv
      refine aw_get (v := .ref a7) he rfl in_X5 1 (by decide) q377 (Or.inl rfl) hx dX5_search_86 ?_
      refine aw_iload_n 3 dX5_search_89 rfl rfl ?_
      refine aw_iload 4 dX5_search_90 rfl ?_
      obtain ⟨n9, f9, he, hin, hv⟩ := hv
      refine aw_iast he hin rfl dX5_search_92 ?_
      revert hv; generalize aUp h a7 (aInts .int n9 (upd f9 (x3).toNatClampNeg x4)) = h8; intro hv
      exact aw_vret rfl dX5_search_93 hv hc hs
    · have hv := hv.2 c6
      refine aw_aload_n 0 (x := x0) dX5_search_48 rfl rfl ?_
      obtain ⟨fs, a9, he, hx, hv⟩ := hv
      refine aw_get (v := .ref a9) he rfl in_X5 1 (by decide) q377 (Or.inl rfl) hx dX5_search_49 ?_
      refine aw_iload_n 3 dX5_search_52 rfl rfl ?_
      refine aw_iload 5 dX5_search_53 rfl ?_
      obtain ⟨d2, mc2, ms2, Q, hM, hd9, hc9, hs9, hv, hx⟩ := hv
      refine aw_callS (rest := [.int x3, .ref a9]) hM nJ6_lowestOneBit q822 q823 q131 q824 dX5_search_55 rfl hd9 (by decide) (Nat.le_of_ble_eq_true rfl) hc9 hs9 ?_ ?_
      rotate_left
      · exact fun E h2 q => aX_out (hx E h2 q) rfl hc9 hs9
      intro v9 h11 hq
      have hv := hv v9 h11 hq
      obtain ⟨y10, rfl, hv⟩ := hv
      refine aw_eqv (pc2 := 58) (st2 := [.int y10, .int x3, .ref a9]) rfl rfl rfl rfl ?_
      revert hv hc9 hs9; generalize c + mc2 = c12; generalize s + ms2 = s13; intro hc9 hs9 hv
      obtain ⟨n9, f9, he, hin, hv⟩ := hv
      refine aw_iast he hin rfl dX5_search_58 ?_
      revert hv; generalize aUp h11 a9 (aInts .int n9 (upd f9 (x3).toNatClampNeg y10)) = h14; intro hv
      refine aw_aload_n 0 (x := x0) dX5_search_59 rfl rfl ?_
      refine aw_iload_n 3 dX5_search_60 rfl rfl ?_
      obtain ⟨⟨fs, he⟩, hv⟩ := hv
      obtain ⟨d2, mc2, ms2, Q, hM, hd9, hc9, hs9, hv, hx⟩ := hv
      refine aw_callV (rest := []) hM he rfl rfl nX5_isBrokenAt q825 q826 q827 q132 q828 dX5_search_61 rfl hd9 (by decide) (Nat.le_of_ble_eq_true rfl) hc9 hs9 ?_ ?_
      rotate_left
      · exact fun E h2 q => aX_out (hx E h2 q) rfl hc9 hs9
      intro v9 h16 hq
      have hv := hv v9 h16 hq
      obtain ⟨y15, rfl, hv⟩ := hv
      refine aw_eqv (pc2 := 64) (st2 := [.int y15]) rfl rfl rfl rfl ?_
      revert hv hc9 hs9; generalize c12 + mc2 = c17; generalize s13 + ms2 = s18; intro hc9 hs9 hv
      refine aw_if_ne 73 dX5_search_64 (by decide) (fun c19 => ?_) (fun c19 => ?_)
      · have hv := hv.1 c19
        refine aw_iload 5 dX5_search_73 rfl ?_
        refine aw_iload 5 dX5_search_75 rfl ?_
        refine aw_iconst (v := 1) dX5_search_77 (by decide) ?_
        refine aw_isub dX5_search_78 ?_
        refine aw_iand dX5_search_79 ?_
        refine aw_istore (lv' := [(5, .int (x5 &&& (x5 - (1 : Int32)))), (0, .ref x0), (1, .int x1), (2, .ref x2), (3, .int x3), (4, .int x4)]) dX5_search_80 (Nat.le_of_ble_eq_true rfl) rfl ?_
        refine aw_goto 32 dX5_search_82 (by decide) ?_
        refine aw_sub [1, 2, 3, 4, 5, 0] rfl ?_
        exact hv hc9 hs9
      · have hv := hv.2 c19
        refine aw_aload_n 0 (x := x0) dX5_search_67 rfl rfl ?_
        refine aw_iload_n 1 dX5_search_68 rfl rfl ?_
        refine aw_aload_n 2 (x := x2) dX5_search_69 rfl rfl ?_
        obtain ⟨⟨fs, he⟩, hv⟩ := hv
        obtain ⟨d2, mc2, ms2, Q, hM, hd9, hc9, hs9, hv, hx⟩ := hv
        refine aw_callV (rest := []) hM he rfl rfl nX5_search q809 q811 qs26 q132 q812 dX5_search_70 rfl hd9 (by decide) (Nat.le_of_ble_eq_true rfl) hc9 hs9 ?_ ?_
        rotate_left
        · exact fun E h2 q => aX_out (hx E h2 q) rfl hc9 hs9
        intro v9 h21 hq
        have hv := hv v9 h21 hq
        obtain ⟨rfl, hv⟩ := hv
        refine aw_eqv (pc2 := 73) (st2 := []) rfl rfl rfl rfl ?_
        revert hv hc9 hs9; generalize c17 + mc2 = c22; generalize s18 + ms2 = s23; intro hc9 hs9 hv
        refine aw_iload 5 dX5_search_73 rfl ?_
        refine aw_iload 5 dX5_search_75 rfl ?_
        refine aw_iconst (v := 1) dX5_search_77 (by decide) ?_
        refine aw_isub dX5_search_78 ?_
        refine aw_iand dX5_search_79 ?_
        refine aw_istore (lv' := [(5, .int (x5 &&& (x5 - (1 : Int32)))), (0, .ref x0), (1, .int x1), (2, .ref x2), (3, .int x3), (4, .int x4)]) dX5_search_80 (Nat.le_of_ble_eq_true rfl) rfl ?_
        refine aw_goto 32 dX5_search_82 (by decide) ?_
        refine aw_sub [1, 2, 3, 4, 5, 0] rfl ?_
        exact hv hc9 hs9
def V_X5_search_0 (l : Launch) (G : aG) (d mc ms : Nat) (P : aR → aH → Prop) (x0 : Nat) (x1 : Int32) (x2 : Nat) (h : aH) : Prop :=
  vIs h x0 5 (
  vC l G mX5_nextCell (wsN mX5_nextCell) d mc ms [.ref x0, .int x1] h 0 0 (xP P) (kI fun y24 h25 c26 s27 => 
  (¬ y24 = ((-1)) → 
    vR h25 x0 5 1 fun a29 =>
    vA .int h25 a29 y24 fun y30 =>
    T_X5_search_32 l G d mc ms P x0 x1 x2 y24 y30 y30 h25 c26 s27
    ) ∧ (y24 = ((-1)) → 
    vR h25 x0 5 1 fun a31 =>
    vIs h25 x2 7 (
    vC l G mX8_add (wsN mX8_add) d mc ms [.ref x2, .ref a31] h25 c26 s27 (xP P) (kV fun h33 c34 s35 => 
    P (.inl none) h33))
    )))
set_option maxHeartbeats 4000000 in
theorem A_X5_search {l : Launch} {G : aG} {d mc ms : Nat} {P : aR → aH → Prop} {x0 : Nat} {x1 : Int32} {x2 : Nat} {h : aH} (hl : l.stackTraces = false) (hv : V_X5_search_0 l G d mc ms P x0 x1 x2 h) : aC l G mX5_search (wsN mX5_search) d mc ms [.ref x0, .int x1, .ref x2] h P := by
  refine aC_ofF (M := mX5_search) rfl pX5_search (Nat.le_of_ble_eq_true rfl) hl ?_
  refine aw_eqv (lv2 := [(0, .ref x0), (1, .int x1), (2, .ref x2)]) rfl rfl rfl rfl ?_
  unfold V_X5_search_0 at hv
  refine aw_aload_n 0 (x := x0) dX5_search_0 rfl rfl ?_
  refine aw_iload_n 1 dX5_search_1 rfl rfl ?_
  obtain ⟨⟨fs, he⟩, hv⟩ := hv
  obtain ⟨d2, mc2, ms2, Q, hM, hd9, hc9, hs9, hv, hx⟩ := hv
  refine aw_callV (rest := []) hM he rfl rfl nX5_nextCell q813 q815 qs27 q132 q816 dX5_search_2 rfl hd9 (by decide) (Nat.le_of_ble_eq_true rfl) hc9 hs9 ?_ ?_
  rotate_left
  · exact fun E h2 q => aX_out (hx E h2 q) rfl hc9 hs9
  intro v9 h25 hq
  have hv := hv v9 h25 hq
  obtain ⟨y24, rfl, hv⟩ := hv
  refine aw_eqv (pc2 := 5) (st2 := [.int y24]) rfl rfl rfl rfl ?_
  revert hv hc9 hs9; generalize 0 + mc2 = c26; generalize 0 + ms2 = s27; intro hc9 hs9 hv
  refine aw_istore_n (lv' := [(3, .int y24), (0, .ref x0), (1, .int x1), (2, .ref x2)]) dX5_search_5 rfl (Nat.le_of_ble_eq_true rfl) rfl ?_
  refine aw_iload_n 0 dX5_search_6 rfl rfl ?_
  refine aw_iconst (v := (-1)) dX5_search_7 (by decide) ?_
  refine aw_icmp_ne 20 dX5_search_8 (by decide) (fun c28 => ?_) (fun c28 => ?_)
  · have hv := hv.1 c28
    refine aw_aload_n 1 (x := x0) dX5_search_20 rfl rfl ?_
    obtain ⟨fs, a29, he, hx, hv⟩ := hv
    refine aw_get (v := .ref a29) he rfl in_X5 1 (by decide) q377 (Or.inl rfl) hx dX5_search_21 ?_
    refine aw_iload_n 0 dX5_search_24 rfl rfl ?_
    obtain ⟨n9, f9, he, hin, hv⟩ := hv
    refine aw_iald he hin dX5_search_25 ?_
    revert hv; generalize f9 (y24).toNatClampNeg = y30; intro hv
    refine aw_istore (lv' := [(4, .int y30), (3, .int y24), (0, .ref x0), (1, .int x1), (2, .ref x2)]) dX5_search_26 (Nat.le_of_ble_eq_true rfl) rfl ?_
    refine aw_iload 0 dX5_search_28 rfl ?_
    refine aw_istore (lv' := [(5, .int y30), (4, .int y30), (3, .int y24), (0, .ref x0), (1, .int x1), (2, .ref x2)]) dX5_search_30 (Nat.le_of_ble_eq_true rfl) rfl ?_
    refine aw_sub [3, 4, 5, 2, 1, 0] rfl ?_
    exact hv hc9 hs9
  · have hv := hv.2 c28
    refine aw_aload_n 3 (x := x2) dX5_search_11 rfl rfl ?_
    refine aw_aload_n 1 (x := x0) dX5_search_12 rfl rfl ?_
    obtain ⟨fs, a31, he, hx, hv⟩ := hv
    refine aw_get (v := .ref a31) he rfl in_X5 1 (by decide) q377 (Or.inl rfl) hx dX5_search_13 ?_
    obtain ⟨⟨fs, he⟩, hv⟩ := hv
    obtain ⟨d2, mc2, ms2, Q, hM, hd9, hc9, hs9, hv, hx⟩ := hv
    refine aw_callV (rest := []) hM he rfl rfl nX8_add q817 q818 q819 q148 q820 dX5_search_16 rfl hd9 (by decide) (Nat.le_of_ble_eq_true rfl) hc9 hs9 ?_ ?_
    rotate_left
    · exact fun E h2 q => aX_out (hx E h2 q) rfl hc9 hs9
    intro v9 h33 hq
    have hv := hv v9 h33 hq
    obtain ⟨rfl, hv⟩ := hv
    refine aw_eqv (pc2 := 19) (st2 := []) rfl rfl rfl rfl ?_
    revert hv hc9 hs9; generalize c26 + mc2 = c34; generalize s27 + ms2 = s35; intro hc9 hs9 hv
    exact aw_vret rfl dX5_search_19 hv hc9 hs9
def V_X5_solutions_0 (l : Launch) (G : aG) (d mc ms : Nat) (P : aR → aH → Prop) (x0 : Nat) (x1 : Int32) (x2 : Int32) (h : aH) : Prop :=
  vNew h 7 4 [.int 0, .null, .int 0, .int 0] mc ms 0 0 fun a1 h2 c3 s4 => h a1 = none →
  vC l G mX8_init (wsN mX8_init) d mc ms [.ref a1, .int x1] h2 c3 s4 (xP P) (kV fun h7 c8 s9 => 
  vIs h7 x0 5 (
  vC l G mX5_isBroken (wsN mX5_isBroken) d mc ms [.ref x0] h7 c8 s9 (xP P) (kI fun y10 h11 c12 s13 => 
  (¬ y10 = 0 → 
    P (.inl (some (.ref a1))) h11
    ) ∧ (y10 = 0 → 
    vIs h11 x0 5 (
    vC l G mX5_search (wsN mX5_search) d mc ms [.ref x0, .int x2, .ref a1] h11 c12 s13 (xP P) (kV fun h16 c17 s18 => 
    P (.inl (some (.ref a1))) h16))
    ))))
set_option maxHeartbeats 4000000 in
theorem A_X5_solutions {l : Launch} {G : aG} {d mc ms : Nat} {P : aR → aH → Prop} {x0 : Nat} {x1 : Int32} {x2 : Int32} {h : aH} (hl : l.stackTraces = false) (hv : V_X5_solutions_0 l G d mc ms P x0 x1 x2 h) : aC l G mX5_solutions (wsN mX5_solutions) d mc ms [.ref x0, .int x1, .int x2] h P := by
  refine aC_ofF (M := mX5_solutions) rfl pX5_solutions (Nat.le_of_ble_eq_true rfl) hl ?_
  refine aw_eqv (lv2 := [(0, .ref x0), (1, .int x1), (2, .int x2)]) rfl rfl rfl rfl ?_
  unfold V_X5_solutions_0 at hv
  obtain ⟨hc9, hs9, hv⟩ := hv
  refine aw_new (N := 4) (fs := [.int 0, .null, .int 0, .int 0]) (rfl : aCl[7]? = _) in_X8 tyX8_ok q784 q785 q148 (by decide) hc9 hs9 dX5_solutions_0 (fun a1 g5 => ?_)
  have hv := hv a1 g5 g5
  refine aw_eqv (pc2 := 3) (st2 := [.ref a1]) rfl rfl rfl rfl ?_
  revert hv hc9 hs9; generalize aUp h a1 (.inr (7, [.int 0, .null, .int 0, .int 0])) = h2; generalize 0 + 1 = c3; generalize 0 + 4 = s4; intro hc9 hs9 hv
  refine aw_dup dX5_solutions_3 rfl ?_
  refine aw_iload_n 1 dX5_solutions_4 rfl rfl ?_
  obtain ⟨d2, mc2, ms2, Q, hM, hd9, hc9, hs9, hv, hx⟩ := hv
  refine aw_callI (rest := [.ref a1]) rfl hM nX8_init rfl q786 q787 q148 q788 dX5_solutions_5 rfl hd9 (by decide) (Nat.le_of_ble_eq_true rfl) hc9 hs9 ?_ ?_
  rotate_left
  · exact fun E h2 q => aX_out (hx E h2 q) rfl hc9 hs9
  intro v9 h7 hq
  have hv := hv v9 h7 hq
  obtain ⟨rfl, hv⟩ := hv
  refine aw_eqv (pc2 := 8) (st2 := [.ref a1]) rfl rfl rfl rfl ?_
  revert hv hc9 hs9; generalize c3 + mc2 = c8; generalize s4 + ms2 = s9; intro hc9 hs9 hv
  refine aw_astore_n (lv' := [(3, .ref a1), (0, .ref x0), (1, .int x1), (2, .int x2)]) dX5_solutions_8 rfl (Nat.le_of_ble_eq_true rfl) rfl ?_
  refine aw_aload_n 1 (x := x0) dX5_solutions_9 rfl rfl ?_
  obtain ⟨⟨fs, he⟩, hv⟩ := hv
  obtain ⟨d2, mc2, ms2, Q, hM, hd9, hc9, hs9, hv, hx⟩ := hv
  refine aw_callV (rest := []) hM he rfl rfl nX5_isBroken q679 q619 q620 q132 q621 dX5_solutions_10 rfl hd9 (by decide) (Nat.le_of_ble_eq_true rfl) hc9 hs9 ?_ ?_
  rotate_left
  · exact fun E h2 q => aX_out (hx E h2 q) rfl hc9 hs9
  intro v9 h11 hq
  have hv := hv v9 h11 hq
  obtain ⟨y10, rfl, hv⟩ := hv
  refine aw_eqv (pc2 := 13) (st2 := [.int y10]) rfl rfl rfl rfl ?_
  revert hv hc9 hs9; generalize c8 + mc2 = c12; generalize s9 + ms2 = s13; intro hc9 hs9 hv
  refine aw_if_ne 22 dX5_solutions_13 (by decide) (fun c14 => ?_) (fun c14 => ?_)
  · have hv := hv.1 c14
    refine aw_aload_n 0 (x := a1) dX5_solutions_22 rfl rfl ?_
    exact aw_aret rfl (Or.inl ⟨_, rfl⟩) (Or.inr ⟨_, rfl⟩) dX5_solutions_23 hv hc9 hs9
  · have hv := hv.2 c14
    refine aw_aload_n 1 (x := x0) dX5_solutions_16 rfl rfl ?_
    refine aw_iload_n 3 dX5_solutions_17 rfl rfl ?_
    refine aw_aload_n 0 (x := a1) dX5_solutions_18 rfl rfl ?_
    obtain ⟨⟨fs, he⟩, hv⟩ := hv
    obtain ⟨d2, mc2, ms2, Q, hM, hd9, hc9, hs9, hv, hx⟩ := hv
    refine aw_callV (rest := []) hM he rfl rfl nX5_search q809 q811 qs26 q132 q812 dX5_solutions_19 rfl hd9 (by decide) (Nat.le_of_ble_eq_true rfl) hc9 hs9 ?_ ?_
    rotate_left
    · exact fun E h2 q => aX_out (hx E h2 q) rfl hc9 hs9
    intro v9 h16 hq
    have hv := hv v9 h16 hq
    obtain ⟨rfl, hv⟩ := hv
    refine aw_eqv (pc2 := 22) (st2 := []) rfl rfl rfl rfl ?_
    revert hv hc9 hs9; generalize c12 + mc2 = c17; generalize s13 + ms2 = s18; intro hc9 hs9 hv
    refine aw_aload_n 0 (x := a1) dX5_solutions_22 rfl rfl ?_
    exact aw_aret rfl (Or.inl ⟨_, rfl⟩) (Or.inr ⟨_, rfl⟩) dX5_solutions_23 hv hc9 hs9
def T_X5_countWith_3 (l : Launch) (G : aG) (d mc ms : Nat) (P : aR → aH → Prop) (x0 : Nat) (x1 : Int32) (x2 : Int32) (x3 : Nat) (x4 : Int32) (h : aH) (c s : Nat) : Prop := c ≤ mc → s ≤ ms → AW l G mX5_countWith d mc ms P 3 [(0, .ref x0), (1, .int x1), (2, .int x2), (3, .ref x3), (4, .int x4)] [] h c s
def T_X5_countWith_56 (l : Launch) (G : aG) (d mc ms : Nat) (P : aR → aH → Prop) (x0 : Nat) (x1 : Int32) (x2 : Int32) (x4 : Int32) (x5 : Int32) (h : aH) (c s : Nat) : Prop := c ≤ mc → s ≤ ms → AW l G mX5_countWith d mc ms P 56 [(0, .ref x0), (1, .int x1), (2, .int x2), (4, .int x4), (5, .int x5)] [] h c s
def V_X5_countWith_3 (l : Launch) (G : aG) (d mc ms : Nat) (P : aR → aH → Prop) (x0 : Nat) (x1 : Int32) (x2 : Int32) (x3 : Nat) (x4 : Int32) (h : aH) (c s : Nat) : Prop :=
  vR h x0 5 0 fun a1 =>
  vI h a1 3 4 fun y2 =>
  (y2 ≤ x4 → 
    vR h x0 5 0 fun a4 =>
    vI h a4 3 4 fun y5 =>
    T_X5_countWith_56 l G d mc ms P x0 x1 x2 0 y5 h c s
    ) ∧ (¬ y2 ≤ x4 → 
    vR h x0 5 1 fun a6 =>
    vR h x0 5 0 fun a7 =>
    vI h a7 3 4 fun y8 =>
    vA .int h x3 x4 fun y9 =>
    vSt .int h a6 ((y8 * x1) + x4) ((1 : Int32) <<< (y9 &&& 31)) fun h10 =>
    T_X5_countWith_3 l G d mc ms P x0 x1 x2 x3 (x4 + 1) h10 c s
    )
set_option maxHeartbeats 4000000 in
theorem A_X5_countWith_3 {l : Launch} {G : aG} {d mc ms : Nat} {P : aR → aH → Prop} {x0 : Nat} {x1 : Int32} {x2 : Int32} {x3 : Nat} {x4 : Int32} {h : aH} {c s : Nat} (hl : l.stackTraces = false) (hv : V_X5_countWith_3 l G d mc ms P x0 x1 x2 x3 x4 h c s) : T_X5_countWith_3 l G d mc ms P x0 x1 x2 x3 x4 h c s := by
  intro hc hs
  unfold V_X5_countWith_3 at hv
  refine aw_iload 4 dX5_countWith_3 rfl ?_
  refine aw_aload_n 0 (x := x0) dX5_countWith_5 rfl rfl ?_
  obtain ⟨fs, a1, he, hx, hv⟩ := hv
  refine aw_get (v := .ref a1) he rfl in_X5 0 (by decide) q376 (Or.inl rfl) hx dX5_countWith_6 ?_
  obtain ⟨fs, y2, he, hx, hv⟩ := hv
  refine aw_getN (v := .int y2) he rfl in_X3 4 (by decide) q331 (Or.inl rfl) hx dX5_countWith_9 ?_
  refine aw_icmp_ge 44 dX5_countWith_12 (by decide) (fun c3 => ?_) (fun c3 => ?_)
  · have hv := hv.1 c3
    refine aw_iconst (v := 0) dX5_countWith_44 (by decide) ?_
    refine aw_istore (lv' := [(4, .int 0), (0, .ref x0), (1, .int x1), (2, .int x2), (3, .ref x3)]) dX5_countWith_45 (Nat.le_of_ble_eq_true rfl) rfl ?_
    refine aw_aload_n 1 (x := x0) dX5_countWith_47 rfl rfl ?_
    obtain ⟨fs, a4, he, hx, hv⟩ := hv
    refine aw_get (v := .ref a4) he rfl in_X5 0 (by decide) q376 (Or.inl rfl) hx dX5_countWith_48 ?_
    obtain ⟨fs, y5, he, hx, hv⟩ := hv
    refine aw_getN (v := .int y5) he rfl in_X3 4 (by decide) q331 (Or.inl rfl) hx dX5_countWith_51 ?_
    refine aw_istore (lv' := [(5, .int y5), (4, .int 0), (0, .ref x0), (1, .int x1), (2, .int x2), (3, .ref x3)]) dX5_countWith_54 (Nat.le_of_ble_eq_true rfl) rfl ?_
    refine aw_sub [2, 3, 4, 1, 0] rfl ?_
    exact hv hc hs
  · have hv := hv.2 c3
    refine aw_aload_n 0 (x := x0) dX5_countWith_15 rfl rfl ?_
    obtain ⟨fs, a6, he, hx, hv⟩ := hv
    refine aw_get (v := .ref a6) he rfl in_X5 1 (by decide) q377 (Or.inl rfl) hx dX5_countWith_16 ?_
    refine aw_aload_n 0 (x := x0) dX5_countWith_19 rfl rfl ?_
    obtain ⟨fs, a7, he, hx, hv⟩ := hv
    refine aw_get (v := .ref a7) he rfl in_X5 0 (by decide) q376 (Or.inl rfl) hx dX5_countWith_20 ?_
    obtain ⟨fs, y8, he, hx, hv⟩ := hv
    refine aw_getN (v := .int y8) he rfl in_X3 4 (by decide) q331 (Or.inl rfl) hx dX5_countWith_23 ?_
    refine aw_iload_n 1 dX5_countWith_26 rfl rfl ?_
    refine aw_imul dX5_countWith_27 ?_
    refine aw_iload 4 dX5_countWith_28 rfl ?_
    refine aw_iadd dX5_countWith_30 ?_
    refine aw_iconst (v := 1) dX5_countWith_31 (by decide) ?_
    refine aw_aload_n 3 (x := x3) dX5_countWith_32 rfl rfl ?_
    refine aw_iload 4 dX5_countWith_33 rfl ?_
    obtain ⟨n9, f9, he, hin, hv⟩ := hv
    refine aw_iald he hin dX5_countWith_35 ?_
    revert hv; generalize f9 (x4).toNatClampNeg = y9; intro hv
    refine aw_ishl dX5_countWith_36 ?_
    obtain ⟨n9, f9, he, hin, hv⟩ := hv
    refine aw_iast he hin rfl dX5_countWith_37 ?_
    revert hv; generalize aUp h a6 (aInts .int n9 (upd f9 (((y8 * x1) + x4)).toNatClampNeg ((1 : Int32) <<< (y9 &&& 31)))) = h10; intro hv
    refine aw_iinc 4 (v := x4 + 1) (lv' := [(4, .int (x4 + 1)), (0, .ref x0), (1, .int x1), (2, .int x2), (3, .ref x3)]) dX5_countWith_38 rfl rfl (Nat.le_of_ble_eq_true rfl) rfl ?_
    refine aw_goto 3 dX5_countWith_41 (by decide) ?_
    refine aw_sub [1, 2, 3, 4, 0] rfl ?_
    exact hv hc hs
def V_X5_countWith_56 (l : Launch) (G : aG) (d mc ms : Nat) (P : aR → aH → Prop) (x0 : Nat) (x1 : Int32) (x2 : Int32) (x4 : Int32) (x5 : Int32) (h : aH) (c s : Nat) : Prop :=
  vR h x0 5 0 fun a11 =>
  vIs h a11 3 (
  vC l G mX3_lineCount (wsN mX3_lineCount) d mc ms [.ref a11] h c s (xP P) (kI fun y12 h13 c14 s15 => 
  (y12 ≤ x5 → 
    (x4 = 0 → 
      vIs h13 x0 5 (
      vC l G mX5_countByRows (wsN mX5_countByRows) d mc ms [.ref x0, .int (x1 + (1 : Int32)), .int x2] h13 c14 s15 (xP P) (kI fun y18 h19 c20 s21 => 
      P (.inl (some (.int y18))) h19))
      ) ∧ (¬ x4 = 0 → 
      P (.inl (some (.int 0))) h13
      )
    ) ∧ (¬ y12 ≤ x5 → 
    (¬ x4 = 0 → 
      (x4 = 0 → 
        vIs h13 x0 5 (
        vC l G mX5_countByRows (wsN mX5_countByRows) d mc ms [.ref x0, .int (x1 + (1 : Int32)), .int x2] h13 c14 s15 (xP P) (kI fun y24 h25 c26 s27 => 
        P (.inl (some (.int y24))) h25))
        ) ∧ (¬ x4 = 0 → 
        P (.inl (some (.int 0))) h13
        )
      ) ∧ (x4 = 0 → 
      vIs h13 x0 5 (
      vC l G mX5_isLineBroken (wsN mX5_isLineBroken) d mc ms [.ref x0, .int x5] h13 c14 s15 (xP P) (kI fun y28 h29 c30 s31 => 
      T_X5_countWith_56 l G d mc ms P x0 x1 x2 y28 (x5 + 1) h29 c30 s31))
      )
    )))
set_option maxHeartbeats 4000000 in
theorem A_X5_countWith_56 {l : Launch} {G : aG} {d mc ms : Nat} {P : aR → aH → Prop} {x0 : Nat} {x1 : Int32} {x2 : Int32} {x4 : Int32} {x5 : Int32} {h : aH} {c s : Nat} (hl : l.stackTraces = false) (hv : V_X5_countWith_56 l G d mc ms P x0 x1 x2 x4 x5 h c s) : T_X5_countWith_56 l G d mc ms P x0 x1 x2 x4 x5 h c s := by
  intro hc hs
  unfold V_X5_countWith_56 at hv
  refine aw_iload 4 dX5_countWith_56 rfl ?_
  refine aw_aload_n 0 (x := x0) dX5_countWith_58 rfl rfl ?_
  obtain ⟨fs, a11, he, hx, hv⟩ := hv
  refine aw_get (v := .ref a11) he rfl in_X5 0 (by decide) q376 (Or.inl rfl) hx dX5_countWith_59 ?_
  obtain ⟨⟨fs, he⟩, hv⟩ := hv
  obtain ⟨d2, mc2, ms2, Q, hM, hd9, hc9, hs9, hv, hx⟩ := hv
  refine aw_callV (rest := [.int x5]) hM he rfl rfl nX3_lineCount q622 q314 q315 q121 q316 dX5_countWith_62 rfl hd9 (by decide) (Nat.le_of_ble_eq_true rfl) hc9 hs9 ?_ ?_
  rotate_left
  · exact fun E h2 q => aX_out (hx E h2 q) rfl hc9 hs9
  intro v9 h13 hq
  have hv := hv v9 h13 hq
  obtain ⟨y12, rfl, hv⟩ := hv
  refine aw_eqv (pc2 := 65) (st2 := [.int y12, .int x5]) rfl rfl rfl rfl ?_
  revert hv hc9 hs9; generalize c + mc2 = c14; generalize s + ms2 = s15; intro hc9 hs9 hv
  refine aw_icmp_ge 87 dX5_countWith_65 (by decide) (fun c16 => ?_) (fun c16 => ?_)
  · have hv := hv.1 c16
    refine aw_iload 3 dX5_countWith_87 rfl ?_
    refine aw_if_eq 96 dX5_countWith_89 (by decide) (fun c17 => ?_) (fun c17 => ?_)
    · have hv := hv.1 c17
      refine aw_aload_n 0 (x := x0) dX5_countWith_96 rfl rfl ?_
      refine aw_iload_n 1 dX5_countWith_97 rfl rfl ?_
      refine aw_iconst (v := 1) dX5_countWith_98 (by decide) ?_
      refine aw_iadd dX5_countWith_99 ?_
      refine aw_iload_n 2 dX5_countWith_100 rfl rfl ?_
      obtain ⟨⟨fs, he⟩, hv⟩ := hv
      obtain ⟨d2, mc2, ms2, Q, hM, hd9, hc9, hs9, hv, hx⟩ := hv
      refine aw_callV (rest := []) hM he rfl rfl nX5_countByRows q841 q834 q835 q132 q836 dX5_countWith_101 rfl hd9 (by decide) (Nat.le_of_ble_eq_true rfl) hc9 hs9 ?_ ?_
      rotate_left
      · exact fun E h2 q => aX_out (hx E h2 q) rfl hc9 hs9
      intro v9 h19 hq
      have hv := hv v9 h19 hq
      obtain ⟨y18, rfl, hv⟩ := hv
      refine aw_eqv (pc2 := 104) (st2 := [.int y18]) rfl rfl rfl rfl ?_
      revert hv hc9 hs9; generalize c14 + mc2 = c20; generalize s15 + ms2 = s21; intro hc9 hs9 hv
      exact aw_iret rfl dX5_countWith_104 hv hc9 hs9
    · have hv := hv.2 c17
      refine aw_iconst (v := 0) dX5_countWith_92 (by decide) ?_
      refine aw_goto 104 dX5_countWith_93 (by decide) ?_
      exact aw_iret rfl dX5_countWith_104 hv hc9 hs9
  · have hv := hv.2 c16
    refine aw_iload 3 dX5_countWith_68 rfl ?_
    refine aw_if_ne 87 dX5_countWith_70 (by decide) (fun c22 => ?_) (fun c22 => ?_)
    · have hv := hv.1 c22
      refine aw_iload 3 dX5_countWith_87 rfl ?_
      refine aw_if_eq 96 dX5_countWith_89 (by decide) (fun c23 => ?_) (fun c23 => ?_)
      · have hv := hv.1 c23
        refine aw_aload_n 0 (x := x0) dX5_countWith_96 rfl rfl ?_
        refine aw_iload_n 1 dX5_countWith_97 rfl rfl ?_
        refine aw_iconst (v := 1) dX5_countWith_98 (by decide) ?_
        refine aw_iadd dX5_countWith_99 ?_
        refine aw_iload_n 2 dX5_countWith_100 rfl rfl ?_
        obtain ⟨⟨fs, he⟩, hv⟩ := hv
        obtain ⟨d2, mc2, ms2, Q, hM, hd9, hc9, hs9, hv, hx⟩ := hv
        refine aw_callV (rest := []) hM he rfl rfl nX5_countByRows q841 q834 q835 q132 q836 dX5_countWith_101 rfl hd9 (by decide) (Nat.le_of_ble_eq_true rfl) hc9 hs9 ?_ ?_
        rotate_left
        · exact fun E h2 q => aX_out (hx E h2 q) rfl hc9 hs9
        intro v9 h25 hq
        have hv := hv v9 h25 hq
        obtain ⟨y24, rfl, hv⟩ := hv
        refine aw_eqv (pc2 := 104) (st2 := [.int y24]) rfl rfl rfl rfl ?_
        revert hv hc9 hs9; generalize c14 + mc2 = c26; generalize s15 + ms2 = s27; intro hc9 hs9 hv
        exact aw_iret rfl dX5_countWith_104 hv hc9 hs9
      · have hv := hv.2 c23
        refine aw_iconst (v := 0) dX5_countWith_92 (by decide) ?_
        refine aw_goto 104 dX5_countWith_93 (by decide) ?_
        exact aw_iret rfl dX5_countWith_104 hv hc9 hs9
    · have hv := hv.2 c22
      refine aw_aload_n 0 (x := x0) dX5_countWith_73 rfl rfl ?_
      refine aw_iload 4 dX5_countWith_74 rfl ?_
      obtain ⟨⟨fs, he⟩, hv⟩ := hv
      obtain ⟨d2, mc2, ms2, Q, hM, hd9, hc9, hs9, hv, hx⟩ := hv
      refine aw_callV (rest := []) hM he rfl rfl nX5_isLineBroken q623 q624 q625 q132 q626 dX5_countWith_76 rfl hd9 (by decide) (Nat.le_of_ble_eq_true rfl) hc9 hs9 ?_ ?_
      rotate_left
      · exact fun E h2 q => aX_out (hx E h2 q) rfl hc9 hs9
      intro v9 h29 hq
      have hv := hv v9 h29 hq
      obtain ⟨y28, rfl, hv⟩ := hv
      refine aw_eqv (pc2 := 79) (st2 := [.int y28]) rfl rfl rfl rfl ?_
      revert hv hc9 hs9; generalize c14 + mc2 = c30; generalize s15 + ms2 = s31; intro hc9 hs9 hv
      refine aw_istore (lv' := [(4, .int y28), (0, .ref x0), (1, .int x1), (2, .int x2), (5, .int x5)]) dX5_countWith_79 (Nat.le_of_ble_eq_true rfl) rfl ?_
      refine aw_iinc 4 (v := x5 + 1) (lv' := [(5, .int (x5 + 1)), (4, .int y28), (0, .ref x0), (1, .int x1), (2, .int x2)]) dX5_countWith_81 rfl rfl (Nat.le_of_ble_eq_true rfl) rfl ?_
      refine aw_goto 56 dX5_countWith_84 (by decide) ?_
      refine aw_sub [2, 3, 4, 1, 0] rfl ?_
      exact hv hc9 hs9
def V_X5_countWith_0 (l : Launch) (G : aG) (d mc ms : Nat) (P : aR → aH → Prop) (x0 : Nat) (x1 : Int32) (x2 : Int32) (x3 : Nat) (h : aH) : Prop :=
  T_X5_countWith_3 l G d mc ms P x0 x1 x2 x3 0 h 0 0
set_option maxHeartbeats 4000000 in
theorem A_X5_countWith {l : Launch} {G : aG} {d mc ms : Nat} {P : aR → aH → Prop} {x0 : Nat} {x1 : Int32} {x2 : Int32} {x3 : Nat} {h : aH} (hl : l.stackTraces = false) (hv : V_X5_countWith_0 l G d mc ms P x0 x1 x2 x3 h) : aC l G mX5_countWith (wsN mX5_countWith) d mc ms [.ref x0, .int x1, .int x2, .ref x3] h P := by
  refine aC_ofF (M := mX5_countWith) rfl pX5_countWith (Nat.le_of_ble_eq_true rfl) hl ?_
  refine aw_eqv (lv2 := [(0, .ref x0), (1, .int x1), (2, .int x2), (3, .ref x3)]) rfl rfl rfl rfl ?_
  unfold V_X5_countWith_0 at hv
  refine aw_iconst (v := 0) dX5_countWith_0 (by decide) ?_
  refine aw_istore (lv' := [(4, .int 0), (0, .ref x0), (1, .int x1), (2, .int x2), (3, .ref x3)]) dX5_countWith_1 (Nat.le_of_ble_eq_true rfl) rfl ?_
  refine aw_sub [1, 2, 3, 4, 0] rfl ?_
  exact hv (Nat.zero_le _) (Nat.zero_le _)
def T_X5_countByRows_62 (l : Launch) (G : aG) (d mc ms : Nat) (P : aR → aH → Prop) (x0 : Nat) (x1 : Int32) (x2 : Int32) (x3 : Nat) (x4 : Int32) (x5 : Int32) (h : aH) (c s : Nat) : Prop := c ≤ mc → s ≤ ms → AW l G mX5_countByRows d mc ms P 62 [(0, .ref x0), (1, .int x1), (2, .int x2), (3, .ref x3), (4, .int x4), (5, .int x5)] [] h c s
def V_X5_countByRows_62 (l : Launch) (G : aG) (d mc ms : Nat) (P : aR → aH → Prop) (x0 : Nat) (x1 : Int32) (x2 : Int32) (x3 : Nat) (x4 : Int32) (x5 : Int32) (h : aH) (c s : Nat) : Prop :=
  vR h x0 5 0 fun a1 =>
  vO h a1 3 3 fun o2 =>
  vSome o2 fun q3 =>
  vIs h q3 4 (
  vC l G mX4_count (wsN mX4_count) d mc ms [.ref q3] h c s (xP P) (kI fun y4 h5 c6 s7 => 
  (y4 ≤ x5 → 
    vC l G mJ4_min (wsN mJ4_min) d mc ms [.int x2, .int x4] h5 c6 s7 (xP P) (kI fun y9 h10 c11 s12 => 
    P (.inl (some (.int y9))) h10)
    ) ∧ (¬ y4 ≤ x5 → 
    (x2 ≤ x4 → 
      vC l G mJ4_min (wsN mJ4_min) d mc ms [.int x2, .int x4] h5 c6 s7 (xP P) (kI fun y14 h15 c16 s17 => 
      P (.inl (some (.int y14))) h15)
      ) ∧ (¬ x2 ≤ x4 → 
      vR h5 x0 5 0 fun a18 =>
      vO h5 a18 3 3 fun o19 =>
      vSome o19 fun q20 =>
      vIs h5 q20 4 (
      vC l G mX4_at (wsN mX4_at) d mc ms [.ref q20, .int x5] h5 c6 s7 (xP P) (kR fun a21 h22 c23 s24 => 
      vIs h22 x0 5 (
      vC l G mX5_canHave (wsN mX5_canHave) d mc ms [.ref x0, .int x1, .ref a21] h22 c23 s24 (xP P) (kI fun y25 h26 c27 s28 => 
      (y25 = 0 → 
        T_X5_countByRows_62 l G d mc ms P x0 x1 x2 x3 x4 (x5 + 1) h26 c27 s28
        ) ∧ (¬ y25 = 0 → 
        vIs h26 x0 5 (
        vC l G mX5_countWith (wsN mX5_countWith) d mc ms [.ref x0, .int x1, .int (x2 - x4), .ref a21] h26 c27 s28 (xP P) (kI fun y30 h31 c32 s33 => 
        vR h31 x0 5 1 fun a34 =>
        vR h31 x0 5 0 fun a35 =>
        vI h31 a35 3 4 fun y36 =>
        vR h31 x0 5 0 fun a37 =>
        vI h31 a37 3 4 fun y38 =>
        1 ≤ d ∧ vCpyI .int h31 x3 (0 : Int32) a34 (y36 * x1) y38 fun h39 =>
        T_X5_countByRows_62 l G d mc ms P x0 x1 x2 x3 (x4 + y30) (x5 + 1) h39 c32 s33))
        )))))
      )
    )))
set_option maxHeartbeats 4000000 in
theorem A_X5_countByRows_62 {l : Launch} {G : aG} {d mc ms : Nat} {P : aR → aH → Prop} {x0 : Nat} {x1 : Int32} {x2 : Int32} {x3 : Nat} {x4 : Int32} {x5 : Int32} {h : aH} {c s : Nat} (hl : l.stackTraces = false) (hv : V_X5_countByRows_62 l G d mc ms P x0 x1 x2 x3 x4 x5 h c s) : T_X5_countByRows_62 l G d mc ms P x0 x1 x2 x3 x4 x5 h c s := by
  intro hc hs
  unfold V_X5_countByRows_62 at hv
  refine aw_iload 5 dX5_countByRows_62 rfl ?_
  refine aw_aload_n 0 (x := x0) dX5_countByRows_64 rfl rfl ?_
  obtain ⟨fs, a1, he, hx, hv⟩ := hv
  refine aw_get (v := .ref a1) he rfl in_X5 0 (by decide) q376 (Or.inl rfl) hx dX5_countByRows_65 ?_
  obtain ⟨fs, o2, he, hx, hv⟩ := hv
  refine aw_getN (v := va_rf o2) he rfl in_X3 3 (by decide) q329 (Or.inl rfl) hx dX5_countByRows_68 ?_
  obtain ⟨q3, hq9, hv⟩ := hv
  subst hq9
  refine aw_eqv (lv2 := [(0, .ref x0), (1, .int x1), (2, .int x2), (3, .ref x3), (4, .int x4), (5, .int x5)]) (st2 := [.ref q3, .int x5]) rfl rfl rfl rfl ?_
  obtain ⟨⟨fs, he⟩, hv⟩ := hv
  obtain ⟨d2, mc2, ms2, Q, hM, hd9, hc9, hs9, hv, hx⟩ := hv
  refine aw_callV (rest := [.int x5]) hM he rfl rfl nX4_count q627 q628 q629 q122 q630 dX5_countByRows_71 rfl hd9 (by decide) (Nat.le_of_ble_eq_true rfl) hc9 hs9 ?_ ?_
  rotate_left
  · exact fun E h2 q => aX_out (hx E h2 q) rfl hc9 hs9
  intro v9 h5 hq
  have hv := hv v9 h5 hq
  obtain ⟨y4, rfl, hv⟩ := hv
  refine aw_eqv (pc2 := 74) (st2 := [.int y4, .int x5]) rfl rfl rfl rfl ?_
  revert hv hc9 hs9; generalize c + mc2 = c6; generalize s + ms2 = s7; intro hc9 hs9 hv
  refine aw_icmp_ge 154 dX5_countByRows_74 (by decide) (fun c8 => ?_) (fun c8 => ?_)
  · have hv := hv.1 c8
    refine aw_iload_n 2 dX5_countByRows_154 rfl rfl ?_
    refine aw_iload 4 dX5_countByRows_155 rfl ?_
    obtain ⟨d2, mc2, ms2, Q, hM, hd9, hc9, hs9, hv, hx⟩ := hv
    refine aw_callS (rest := []) hM nJ4_min q842 q286 q128 q287 dX5_countByRows_157 rfl hd9 (by decide) (Nat.le_of_ble_eq_true rfl) hc9 hs9 ?_ ?_
    rotate_left
    · exact fun E h2 q => aX_out (hx E h2 q) rfl hc9 hs9
    intro v9 h10 hq
    have hv := hv v9 h10 hq
    obtain ⟨y9, rfl, hv⟩ := hv
    refine aw_eqv (pc2 := 160) (st2 := [.int y9]) rfl rfl rfl rfl ?_
    revert hv hc9 hs9; generalize c6 + mc2 = c11; generalize s7 + ms2 = s12; intro hc9 hs9 hv
    exact aw_iret rfl dX5_countByRows_160 hv hc9 hs9
  · have hv := hv.2 c8
    refine aw_iload 4 dX5_countByRows_77 rfl ?_
    refine aw_iload_n 2 dX5_countByRows_79 rfl rfl ?_
    refine aw_icmp_ge 154 dX5_countByRows_80 (by decide) (fun c13 => ?_) (fun c13 => ?_)
    · have hv := hv.1 c13
      refine aw_iload_n 2 dX5_countByRows_154 rfl rfl ?_
      refine aw_iload 4 dX5_countByRows_155 rfl ?_
      obtain ⟨d2, mc2, ms2, Q, hM, hd9, hc9, hs9, hv, hx⟩ := hv
      refine aw_callS (rest := []) hM nJ4_min q842 q286 q128 q287 dX5_countByRows_157 rfl hd9 (by decide) (Nat.le_of_ble_eq_true rfl) hc9 hs9 ?_ ?_
      rotate_left
      · exact fun E h2 q => aX_out (hx E h2 q) rfl hc9 hs9
      intro v9 h15 hq
      have hv := hv v9 h15 hq
      obtain ⟨y14, rfl, hv⟩ := hv
      refine aw_eqv (pc2 := 160) (st2 := [.int y14]) rfl rfl rfl rfl ?_
      revert hv hc9 hs9; generalize c6 + mc2 = c16; generalize s7 + ms2 = s17; intro hc9 hs9 hv
      exact aw_iret rfl dX5_countByRows_160 hv hc9 hs9
    · have hv := hv.2 c13
      refine aw_aload_n 0 (x := x0) dX5_countByRows_83 rfl rfl ?_
      obtain ⟨fs, a18, he, hx, hv⟩ := hv
      refine aw_get (v := .ref a18) he rfl in_X5 0 (by decide) q376 (Or.inl rfl) hx dX5_countByRows_84 ?_
      obtain ⟨fs, o19, he, hx, hv⟩ := hv
      refine aw_getN (v := va_rf o19) he rfl in_X3 3 (by decide) q329 (Or.inl rfl) hx dX5_countByRows_87 ?_
      refine aw_iload 5 dX5_countByRows_90 rfl ?_
      obtain ⟨q20, hq9, hv⟩ := hv
      subst hq9
      refine aw_eqv (lv2 := [(0, .ref x0), (1, .int x1), (2, .int x2), (3, .ref x3), (4, .int x4), (5, .int x5)]) (st2 := [.int x5, .ref q20]) rfl rfl rfl rfl ?_
      obtain ⟨⟨fs, he⟩, hv⟩ := hv
      obtain ⟨d2, mc2, ms2, Q, hM, hd9, hc9, hs9, hv, hx⟩ := hv
      refine aw_callV (rest := []) hM he rfl rfl nX4_at q633 q634 q635 q122 q636 dX5_countByRows_92 rfl hd9 (by decide) (Nat.le_of_ble_eq_true rfl) hc9 hs9 ?_ ?_
      rotate_left
      · exact fun E h2 q => aX_out (hx E h2 q) rfl hc9 hs9
      intro v9 h22 hq
      have hv := hv v9 h22 hq
      obtain ⟨a21, rfl, hv⟩ := hv
      refine aw_eqv (pc2 := 95) (st2 := [.ref a21]) rfl rfl rfl rfl ?_
      revert hv hc9 hs9; generalize c6 + mc2 = c23; generalize s7 + ms2 = s24; intro hc9 hs9 hv
      refine aw_astore (lv' := [(6, .ref a21), (0, .ref x0), (1, .int x1), (2, .int x2), (3, .ref x3), (4, .int x4), (5, .int x5)]) dX5_countByRows_95 (Nat.le_of_ble_eq_true rfl) rfl ?_
      refine aw_aload_n 1 (x := x0) dX5_countByRows_97 rfl rfl ?_
      refine aw_iload_n 2 dX5_countByRows_98 rfl rfl ?_
      refine aw_aload 0 (x := a21) dX5_countByRows_99 rfl ?_
      obtain ⟨⟨fs, he⟩, hv⟩ := hv
      obtain ⟨d2, mc2, ms2, Q, hM, hd9, hc9, hs9, hv, hx⟩ := hv
      refine aw_callV (rest := []) hM he rfl rfl nX5_canHave q651 q653 qs10 q132 q654 dX5_countByRows_101 rfl hd9 (by decide) (Nat.le_of_ble_eq_true rfl) hc9 hs9 ?_ ?_
      rotate_left
      · exact fun E h2 q => aX_out (hx E h2 q) rfl hc9 hs9
      intro v9 h26 hq
      have hv := hv v9 h26 hq
      obtain ⟨y25, rfl, hv⟩ := hv
      refine aw_eqv (pc2 := 104) (st2 := [.int y25]) rfl rfl rfl rfl ?_
      revert hv hc9 hs9; generalize c23 + mc2 = c27; generalize s24 + ms2 = s28; intro hc9 hs9 hv
      refine aw_if_eq 148 dX5_countByRows_104 (by decide) (fun c29 => ?_) (fun c29 => ?_)
      · have hv := hv.1 c29
        refine aw_iinc 6 (v := x5 + 1) (lv' := [(5, .int (x5 + 1)), (6, .ref a21), (0, .ref x0), (1, .int x1), (2, .int x2), (3, .ref x3), (4, .int x4)]) dX5_countByRows_148 rfl rfl (Nat.le_of_ble_eq_true rfl) rfl ?_
        refine aw_goto 62 dX5_countByRows_151 (by decide) ?_
        refine aw_sub [2, 3, 4, 5, 6, 0] rfl ?_
        exact hv hc9 hs9
      · have hv := hv.2 c29
        refine aw_iload 5 dX5_countByRows_107 rfl ?_
        refine aw_aload_n 1 (x := x0) dX5_countByRows_109 rfl rfl ?_
        refine aw_iload_n 2 dX5_countByRows_110 rfl rfl ?_
        refine aw_iload_n 3 dX5_countByRows_111 rfl rfl ?_
        refine aw_iload 5 dX5_countByRows_112 rfl ?_
        refine aw_isub dX5_countByRows_114 ?_
        refine aw_aload 0 (x := a21) dX5_countByRows_115 rfl ?_
        obtain ⟨⟨fs, he⟩, hv⟩ := hv
        obtain ⟨d2, mc2, ms2, Q, hM, hd9, hc9, hs9, hv, hx⟩ := hv
        refine aw_callV (rest := [.int x4]) hM he rfl rfl nX5_countWith q837 q839 qs28 q132 q840 dX5_countByRows_117 rfl hd9 (by decide) (Nat.le_of_ble_eq_true rfl) hc9 hs9 ?_ ?_
        rotate_left
        · exact fun E h2 q => aX_out (hx E h2 q) rfl hc9 hs9
        intro v9 h31 hq
        have hv := hv v9 h31 hq
        obtain ⟨y30, rfl, hv⟩ := hv
        refine aw_eqv (pc2 := 120) (st2 := [.int y30, .int x4]) rfl rfl rfl rfl ?_
        revert hv hc9 hs9; generalize c27 + mc2 = c32; generalize s28 + ms2 = s33; intro hc9 hs9 hv
        refine aw_iadd dX5_countByRows_120 ?_
        refine aw_istore (lv' := [(4, .int (x4 + y30)), (6, .ref a21), (0, .ref x0), (1, .int x1), (2, .int x2), (3, .ref x3), (5, .int x5)]) dX5_countByRows_121 (Nat.le_of_ble_eq_true rfl) rfl ?_
        refine aw_aload_n 5 (x := x3) dX5_countByRows_123 rfl rfl ?_
        refine aw_iconst (v := 0) dX5_countByRows_124 (by decide) ?_
        refine aw_aload_n 2 (x := x0) dX5_countByRows_125 rfl rfl ?_
        obtain ⟨fs, a34, he, hx, hv⟩ := hv
        refine aw_get (v := .ref a34) he rfl in_X5 1 (by decide) q377 (Or.inl rfl) hx dX5_countByRows_126 ?_
        refine aw_aload_n 2 (x := x0) dX5_countByRows_129 rfl rfl ?_
        obtain ⟨fs, a35, he, hx, hv⟩ := hv
        refine aw_get (v := .ref a35) he rfl in_X5 0 (by decide) q376 (Or.inl rfl) hx dX5_countByRows_130 ?_
        obtain ⟨fs, y36, he, hx, hv⟩ := hv
        refine aw_getN (v := .int y36) he rfl in_X3 4 (by decide) q331 (Or.inl rfl) hx dX5_countByRows_133 ?_
        refine aw_iload_n 3 dX5_countByRows_136 rfl rfl ?_
        refine aw_imul dX5_countByRows_137 ?_
        refine aw_aload_n 2 (x := x0) dX5_countByRows_138 rfl rfl ?_
        obtain ⟨fs, a37, he, hx, hv⟩ := hv
        refine aw_get (v := .ref a37) he rfl in_X5 0 (by decide) q376 (Or.inl rfl) hx dX5_countByRows_139 ?_
        obtain ⟨fs, y38, he, hx, hv⟩ := hv
        refine aw_getN (v := .int y38) he rfl in_X3 4 (by decide) q331 (Or.inl rfl) hx dX5_countByRows_142 ?_
        obtain ⟨hd9, n0, n1, f9, g9, he0, he1, w1, w2, w3, w4, w5, hfit, hv⟩ := hv
        refine aw_copyI 0 rfl rfl q516 q222 q221 q126 he0 he1 w1 w2 w3 w4 w5 hfit hd9 (Nat.le_of_ble_eq_true rfl) rfl dX5_countByRows_145 ?_
        revert hv; generalize aUp h31 a34 (aInts .int n1 (va_cpy f9 g9 ((0 : Int32)).toNatClampNeg ((y36 * x1)).toNatClampNeg (y38).toNatClampNeg)) = h39; intro hv
        refine aw_iinc 6 (v := x5 + 1) (lv' := [(5, .int (x5 + 1)), (4, .int (x4 + y30)), (6, .ref a21), (0, .ref x0), (1, .int x1), (2, .int x2), (3, .ref x3)]) dX5_countByRows_148 rfl rfl (Nat.le_of_ble_eq_true rfl) rfl ?_
        refine aw_goto 62 dX5_countByRows_151 (by decide) ?_
        refine aw_sub [3, 4, 5, 6, 1, 0] rfl ?_
        exact hv hc9 hs9
def V_X5_countByRows_0 (l : Launch) (G : aG) (d mc ms : Nat) (P : aR → aH → Prop) (x0 : Nat) (x1 : Int32) (x2 : Int32) (h : aH) : Prop :=
  vR h x0 5 0 fun a40 =>
  vI h a40 3 4 fun y41 =>
  (¬ x1 = y41 → 
    vR h x0 5 2 fun a43 =>
    vAR (.array .int) h a43 x1 fun a44 =>
    vR h x0 5 1 fun a45 =>
    vR h x0 5 0 fun a46 =>
    vI h a46 3 4 fun y47 =>
    vR h x0 5 0 fun a48 =>
    vI h a48 3 4 fun y49 =>
    1 ≤ d ∧ vCpyI .int h a45 (y47 * x1) a44 (0 : Int32) y49 fun h50 =>
    T_X5_countByRows_62 l G d mc ms P x0 x1 x2 a44 0 0 h50 0 0
    ) ∧ (x1 = y41 → 
    vIs h x0 5 (
    vC l G mX5_isBroken (wsN mX5_isBroken) d mc ms [.ref x0] h 0 0 (xP P) (kI fun y51 h52 c53 s54 => 
    P (.inl (some (.int (if y51 = 0 then (1 : Int32) else 0)))) h52))
    )
set_option maxHeartbeats 4000000 in
theorem A_X5_countByRows {l : Launch} {G : aG} {d mc ms : Nat} {P : aR → aH → Prop} {x0 : Nat} {x1 : Int32} {x2 : Int32} {h : aH} (hl : l.stackTraces = false) (hv : V_X5_countByRows_0 l G d mc ms P x0 x1 x2 h) : aC l G mX5_countByRows (wsN mX5_countByRows) d mc ms [.ref x0, .int x1, .int x2] h P := by
  refine aC_ofF (M := mX5_countByRows) rfl pX5_countByRows (Nat.le_of_ble_eq_true rfl) hl ?_
  refine aw_eqv (lv2 := [(0, .ref x0), (1, .int x1), (2, .int x2)]) rfl rfl rfl rfl ?_
  unfold V_X5_countByRows_0 at hv
  refine aw_iload_n 1 dX5_countByRows_0 rfl rfl ?_
  refine aw_aload_n 0 (x := x0) dX5_countByRows_1 rfl rfl ?_
  obtain ⟨fs, a40, he, hx, hv⟩ := hv
  refine aw_get (v := .ref a40) he rfl in_X5 0 (by decide) q376 (Or.inl rfl) hx dX5_countByRows_2 ?_
  obtain ⟨fs, y41, he, hx, hv⟩ := hv
  refine aw_getN (v := .int y41) he rfl in_X3 4 (by decide) q331 (Or.inl rfl) hx dX5_countByRows_5 ?_
  refine aw_icmp_ne 24 dX5_countByRows_8 (by decide) (fun c42 => ?_) (fun c42 => ?_)
  · have hv := hv.1 c42
    refine aw_aload_n 0 (x := x0) dX5_countByRows_24 rfl rfl ?_
    obtain ⟨fs, a43, he, hx, hv⟩ := hv
    refine aw_get (v := .ref a43) he rfl in_X5 2 (by decide) q379 (Or.inl rfl) hx dX5_countByRows_25 ?_
    refine aw_iload_n 1 dX5_countByRows_28 rfl rfl ?_
    obtain ⟨n9, f9, a44, he, hin, hx, hv⟩ := hv
    refine aw_aald 7 rfl rfl he hin dX5_countByRows_29 ?_
    rw [hx]
    refine aw_eqv (st2 := [.ref a44]) rfl rfl rfl rfl ?_
    refine aw_astore_n (lv' := [(3, .ref a44), (0, .ref x0), (1, .int x1), (2, .int x2)]) dX5_countByRows_30 rfl (Nat.le_of_ble_eq_true rfl) rfl ?_
    refine aw_aload_n 1 (x := x0) dX5_countByRows_31 rfl rfl ?_
    obtain ⟨fs, a45, he, hx, hv⟩ := hv
    refine aw_get (v := .ref a45) he rfl in_X5 1 (by decide) q377 (Or.inl rfl) hx dX5_countByRows_32 ?_
    refine aw_aload_n 1 (x := x0) dX5_countByRows_35 rfl rfl ?_
    obtain ⟨fs, a46, he, hx, hv⟩ := hv
    refine aw_get (v := .ref a46) he rfl in_X5 0 (by decide) q376 (Or.inl rfl) hx dX5_countByRows_36 ?_
    obtain ⟨fs, y47, he, hx, hv⟩ := hv
    refine aw_getN (v := .int y47) he rfl in_X3 4 (by decide) q331 (Or.inl rfl) hx dX5_countByRows_39 ?_
    refine aw_iload_n 2 dX5_countByRows_42 rfl rfl ?_
    refine aw_imul dX5_countByRows_43 ?_
    refine aw_aload_n 0 (x := a44) dX5_countByRows_44 rfl rfl ?_
    refine aw_iconst (v := 0) dX5_countByRows_45 (by decide) ?_
    refine aw_aload_n 1 (x := x0) dX5_countByRows_46 rfl rfl ?_
    obtain ⟨fs, a48, he, hx, hv⟩ := hv
    refine aw_get (v := .ref a48) he rfl in_X5 0 (by decide) q376 (Or.inl rfl) hx dX5_countByRows_47 ?_
    obtain ⟨fs, y49, he, hx, hv⟩ := hv
    refine aw_getN (v := .int y49) he rfl in_X3 4 (by decide) q331 (Or.inl rfl) hx dX5_countByRows_50 ?_
    obtain ⟨hd9, n0, n1, f9, g9, he0, he1, w1, w2, w3, w4, w5, hfit, hv⟩ := hv
    refine aw_copyI 0 rfl rfl q516 q222 q221 q126 he0 he1 w1 w2 w3 w4 w5 hfit hd9 (Nat.le_of_ble_eq_true rfl) rfl dX5_countByRows_53 ?_
    revert hv; generalize aUp h a44 (aInts .int n1 (va_cpy f9 g9 ((y47 * x1)).toNatClampNeg ((0 : Int32)).toNatClampNeg (y49).toNatClampNeg)) = h50; intro hv
    refine aw_iconst (v := 0) dX5_countByRows_56 (by decide) ?_
    refine aw_istore (lv' := [(4, .int 0), (3, .ref a44), (0, .ref x0), (1, .int x1), (2, .int x2)]) dX5_countByRows_57 (Nat.le_of_ble_eq_true rfl) rfl ?_
    refine aw_iconst (v := 0) dX5_countByRows_59 (by decide) ?_
    refine aw_istore (lv' := [(5, .int 0), (4, .int 0), (3, .ref a44), (0, .ref x0), (1, .int x1), (2, .int x2)]) dX5_countByRows_60 (Nat.le_of_ble_eq_true rfl) rfl ?_
    refine aw_sub [3, 4, 5, 2, 1, 0] rfl ?_
    exact hv (Nat.zero_le _) (Nat.zero_le _)
  · have hv := hv.2 c42
    refine aw_aload_n 0 (x := x0) dX5_countByRows_11 rfl rfl ?_
    obtain ⟨⟨fs, he⟩, hv⟩ := hv
    obtain ⟨d2, mc2, ms2, Q, hM, hd9, hc9, hs9, hv, hx⟩ := hv
    refine aw_callV (rest := []) hM he rfl rfl nX5_isBroken q679 q619 q620 q132 q621 dX5_countByRows_12 rfl hd9 (by decide) (Nat.le_of_ble_eq_true rfl) hc9 hs9 ?_ ?_
    rotate_left
    · exact fun E h2 q => aX_out (hx E h2 q) rfl hc9 hs9
    intro v9 h52 hq
    have hv := hv v9 h52 hq
    obtain ⟨y51, rfl, hv⟩ := hv
    refine aw_eqv (pc2 := 15) (st2 := [.int y51]) rfl rfl rfl rfl ?_
    revert hv hc9 hs9; generalize 0 + mc2 = c53; generalize 0 + ms2 = s54; intro hc9 hs9 hv
    have J9 : AW l G mX5_countByRows d mc ms P 23 [(0, .ref x0), (1, .int x1), (2, .int x2)] [.int (if y51 = 0 then (1 : Int32) else 0)] h52 c53 s54 := by
      exact aw_iret rfl dX5_countByRows_23 hv hc9 hs9
    refine aw_if_eq 22 dX5_countByRows_15 (by decide) (fun c55 => ?_) (fun c55 => ?_)
    · have J9 := aw_ifT c55 J9
      refine aw_iconst (v := 1) dX5_countByRows_22 (by decide) ?_
      exact J9
    · have J9 := aw_ifF c55 J9
      refine aw_iconst (v := 0) dX5_countByRows_18 (by decide) ?_
      refine aw_goto 23 dX5_countByRows_19 (by decide) ?_
      exact J9
def T_X5_crossedOut_4 (l : Launch) (G : aG) (d mc ms : Nat) (P : aR → aH → Prop) (x0 : Nat) (x1 : Int32) (x2 : Int32) (h : aH) (c s : Nat) : Prop := c ≤ mc → s ≤ ms → AW l G mX5_crossedOut d mc ms P 4 [(0, .ref x0), (1, .int x1), (2, .int x2)] [] h c s
def V_X5_crossedOut_4 (l : Launch) (G : aG) (d mc ms : Nat) (P : aR → aH → Prop) (x0 : Nat) (x1 : Int32) (x2 : Int32) (h : aH) (c s : Nat) : Prop :=
  vR h x0 5 0 fun a1 =>
  vIs h a1 3 (
  vC l G mX3_cellCount (wsN mX3_cellCount) d mc ms [.ref a1] h c s (xP P) (kI fun y2 h3 c4 s5 => 
  (y2 ≤ x2 → 
    P (.inl (some (.int x1))) h3
    ) ∧ (¬ y2 ≤ x2 → 
    vR h3 x0 5 0 fun a7 =>
    vI h3 a7 3 5 fun y8 =>
    vR h3 x0 5 1 fun a9 =>
    vA .int h3 a9 x2 fun y10 =>
    vC l G mJ6_bitCount (wsN mJ6_bitCount) d mc ms [.int y10] h3 c4 s5 (xP P) (kI fun y11 h12 c13 s14 => 
    T_X5_crossedOut_4 l G d mc ms P x0 (x1 + ((y8 + (1 : Int32)) - y11)) (x2 + 1) h12 c13 s14)
    )))
set_option maxHeartbeats 4000000 in
theorem A_X5_crossedOut_4 {l : Launch} {G : aG} {d mc ms : Nat} {P : aR → aH → Prop} {x0 : Nat} {x1 : Int32} {x2 : Int32} {h : aH} {c s : Nat} (hl : l.stackTraces = false) (hv : V_X5_crossedOut_4 l G d mc ms P x0 x1 x2 h c s) : T_X5_crossedOut_4 l G d mc ms P x0 x1 x2 h c s := by
  intro hc hs
  unfold V_X5_crossedOut_4 at hv
  refine aw_iload_n 2 dX5_crossedOut_4 rfl rfl ?_
  refine aw_aload_n 0 (x := x0) dX5_crossedOut_5 rfl rfl ?_
  obtain ⟨fs, a1, he, hx, hv⟩ := hv
  refine aw_get (v := .ref a1) he rfl in_X5 0 (by decide) q376 (Or.inl rfl) hx dX5_crossedOut_6 ?_
  obtain ⟨⟨fs, he⟩, hv⟩ := hv
  obtain ⟨d2, mc2, ms2, Q, hM, hd9, hc9, hs9, hv, hx⟩ := hv
  refine aw_callV (rest := [.int x2]) hM he rfl rfl nX3_cellCount q368 q369 q370 q121 q371 dX5_crossedOut_9 rfl hd9 (by decide) (Nat.le_of_ble_eq_true rfl) hc9 hs9 ?_ ?_
  rotate_left
  · exact fun E h2 q => aX_out (hx E h2 q) rfl hc9 hs9
  intro v9 h3 hq
  have hv := hv v9 h3 hq
  obtain ⟨y2, rfl, hv⟩ := hv
  refine aw_eqv (pc2 := 12) (st2 := [.int y2, .int x2]) rfl rfl rfl rfl ?_
  revert hv hc9 hs9; generalize c + mc2 = c4; generalize s + ms2 = s5; intro hc9 hs9 hv
  refine aw_icmp_ge 43 dX5_crossedOut_12 (by decide) (fun c6 => ?_) (fun c6 => ?_)
  · have hv := hv.1 c6
    refine aw_iload_n 1 dX5_crossedOut_43 rfl rfl ?_
    exact aw_iret rfl dX5_crossedOut_44 hv hc9 hs9
  · have hv := hv.2 c6
    refine aw_iload_n 1 dX5_crossedOut_15 rfl rfl ?_
    refine aw_aload_n 0 (x := x0) dX5_crossedOut_16 rfl rfl ?_
    obtain ⟨fs, a7, he, hx, hv⟩ := hv
    refine aw_get (v := .ref a7) he rfl in_X5 0 (by decide) q376 (Or.inl rfl) hx dX5_crossedOut_17 ?_
    obtain ⟨fs, y8, he, hx, hv⟩ := hv
    refine aw_getN (v := .int y8) he rfl in_X3 5 (by decide) q333 (Or.inl rfl) hx dX5_crossedOut_20 ?_
    refine aw_iconst (v := 1) dX5_crossedOut_23 (by decide) ?_
    refine aw_iadd dX5_crossedOut_24 ?_
    refine aw_aload_n 0 (x := x0) dX5_crossedOut_25 rfl rfl ?_
    obtain ⟨fs, a9, he, hx, hv⟩ := hv
    refine aw_get (v := .ref a9) he rfl in_X5 1 (by decide) q377 (Or.inl rfl) hx dX5_crossedOut_26 ?_
    refine aw_iload_n 2 dX5_crossedOut_29 rfl rfl ?_
    obtain ⟨n9, f9, he, hin, hv⟩ := hv
    refine aw_iald he hin dX5_crossedOut_30 ?_
    revert hv; generalize f9 (x2).toNatClampNeg = y10; intro hv
    obtain ⟨d2, mc2, ms2, Q, hM, hd9, hc9, hs9, hv, hx⟩ := hv
    refine aw_callS (rest := [.int (y8 + (1 : Int32)), .int x1]) hM nJ6_bitCount q746 q292 q131 q293 dX5_crossedOut_31 rfl hd9 (by decide) (Nat.le_of_ble_eq_true rfl) hc9 hs9 ?_ ?_
    rotate_left
    · exact fun E h2 q => aX_out (hx E h2 q) rfl hc9 hs9
    intro v9 h12 hq
    have hv := hv v9 h12 hq
    obtain ⟨y11, rfl, hv⟩ := hv
    refine aw_eqv (pc2 := 34) (st2 := [.int y11, .int (y8 + (1 : Int32)), .int x1]) rfl rfl rfl rfl ?_
    revert hv hc9 hs9; generalize c4 + mc2 = c13; generalize s5 + ms2 = s14; intro hc9 hs9 hv
    refine aw_isub dX5_crossedOut_34 ?_
    refine aw_iadd dX5_crossedOut_35 ?_
    refine aw_istore_n (lv' := [(1, .int (x1 + ((y8 + (1 : Int32)) - y11))), (0, .ref x0), (2, .int x2)]) dX5_crossedOut_36 rfl (Nat.le_of_ble_eq_true rfl) rfl ?_
    refine aw_iinc 2 (v := x2 + 1) (lv' := [(2, .int (x2 + 1)), (1, .int (x1 + ((y8 + (1 : Int32)) - y11))), (0, .ref x0)]) dX5_crossedOut_37 rfl rfl (Nat.le_of_ble_eq_true rfl) rfl ?_
    refine aw_goto 4 dX5_crossedOut_40 (by decide) ?_
    refine aw_sub [2, 1, 0] rfl ?_
    exact hv hc9 hs9
def V_X5_crossedOut_0 (l : Launch) (G : aG) (d mc ms : Nat) (P : aR → aH → Prop) (x0 : Nat) (h : aH) : Prop :=
  T_X5_crossedOut_4 l G d mc ms P x0 0 0 h 0 0
set_option maxHeartbeats 4000000 in
theorem A_X5_crossedOut {l : Launch} {G : aG} {d mc ms : Nat} {P : aR → aH → Prop} {x0 : Nat} {h : aH} (hl : l.stackTraces = false) (hv : V_X5_crossedOut_0 l G d mc ms P x0 h) : aC l G mX5_crossedOut (wsN mX5_crossedOut) d mc ms [.ref x0] h P := by
  refine aC_ofF (M := mX5_crossedOut) rfl pX5_crossedOut (Nat.le_of_ble_eq_true rfl) hl ?_
  refine aw_eqv (lv2 := [(0, .ref x0)]) rfl rfl rfl rfl ?_
  unfold V_X5_crossedOut_0 at hv
  refine aw_iconst (v := 0) dX5_crossedOut_0 (by decide) ?_
  refine aw_istore_n (lv' := [(1, .int 0), (0, .ref x0)]) dX5_crossedOut_1 rfl (Nat.le_of_ble_eq_true rfl) rfl ?_
  refine aw_iconst (v := 0) dX5_crossedOut_2 (by decide) ?_
  refine aw_istore_n (lv' := [(2, .int 0), (1, .int 0), (0, .ref x0)]) dX5_crossedOut_3 rfl (Nat.le_of_ble_eq_true rfl) rfl ?_
  refine aw_sub [2, 1, 0] rfl ?_
  exact hv (Nat.zero_le _) (Nat.zero_le _)
def T_X5_arrangements_13 (l : Launch) (G : aG) (d mc ms : Nat) (P : aR → aH → Prop) (x0 : Nat) (x1 : Int32) (x2 : Int32) (x3 : Nat) (h : aH) (c s : Nat) : Prop := c ≤ mc → s ≤ ms → AW l G mX5_arrangements d mc ms P 13 [(0, .ref x0), (1, .int x1), (2, .int x2), (3, .ref x3)] [] h c s
def V_X5_arrangements_13 (l : Launch) (G : aG) (d mc ms : Nat) (P : aR → aH → Prop) (x0 : Nat) (x1 : Int32) (x2 : Int32) (x3 : Nat) (h : aH) (c s : Nat) : Prop :=
  vIs h x3 6 (
  vC l G mX7_hasNext (wsN mX7_hasNext) d mc ms [.ref x3] h c s (xP P) (kI fun y1 h2 c3 s4 => 
  (y1 = 0 → 
    P (.inl (some (.int x2))) h2
    ) ∧ (¬ y1 = 0 → 
    vIs h2 x3 6 (
    vC l G mX7_next (wsN mX7_next) d mc ms [.ref x3] h2 c3 s4 (xP P) (kR fun a6 h7 c8 s9 => 
    vCastI h7 a6 (
    vIs h7 x0 5 (
    vC l G mX5_canHave (wsN mX5_canHave) d mc ms [.ref x0, .int x1, .ref a6] h7 c8 s9 (xP P) (kI fun y10 h11 c12 s13 => 
    ∀ v15 : Int32, v15 = (x2 + (if y10 = 0 then (0 : Int32) else 1)) →
    T_X5_arrangements_13 l G d mc ms P x0 x1 v15 x3 h11 c12 s13)))))
    )))
set_option maxHeartbeats 4000000 in
theorem A_X5_arrangements_13 {l : Launch} {G : aG} {d mc ms : Nat} {P : aR → aH → Prop} {x0 : Nat} {x1 : Int32} {x2 : Int32} {x3 : Nat} {h : aH} {c s : Nat} (hl : l.stackTraces = false) (hv : V_X5_arrangements_13 l G d mc ms P x0 x1 x2 x3 h c s) : T_X5_arrangements_13 l G d mc ms P x0 x1 x2 x3 h c s := by
  intro hc hs
  unfold V_X5_arrangements_13 at hv
  refine aw_aload_n 3 (x := x3) dX5_arrangements_13 rfl rfl ?_
  obtain ⟨⟨fs, he⟩, hv⟩ := hv
  obtain ⟨d2, mc2, ms2, Q, hM, hd9, hc9, hs9, hv, hx⟩ := hv
  refine aw_callF (rest := []) (x := ⟨"java/util/Iterator", "hasNext", "()Z"⟩) hM he rfl (by decide +kernel : aNoMH ⟨"java/util/Iterator", "hasNext", "()Z"⟩ 0) (by decide +kernel) q1541 q1547 q1545 q147 q1549 dX5_arrangements_14 rfl hd9 (by decide) (Nat.le_of_ble_eq_true rfl) hc9 hs9 ?_ ?_
  rotate_left
  · exact fun E h2 q => aX_out (hx E h2 q) rfl hc9 hs9
  intro v9 h2 hq
  have hv := hv v9 h2 hq
  obtain ⟨y1, rfl, hv⟩ := hv
  refine aw_eqv (pc2 := 19) (st2 := [.int y1]) rfl rfl rfl rfl ?_
  revert hv hc9 hs9; generalize c + mc2 = c3; generalize s + ms2 = s4; intro hc9 hs9 hv
  refine aw_if_eq 54 dX5_arrangements_19 (by decide) (fun c5 => ?_) (fun c5 => ?_)
  · have hv := hv.1 c5
    refine aw_iload_n 2 dX5_arrangements_54 rfl rfl ?_
    exact aw_iret rfl dX5_arrangements_55 hv hc9 hs9
  · have hv := hv.2 c5
    refine aw_aload_n 3 (x := x3) dX5_arrangements_22 rfl rfl ?_
    obtain ⟨⟨fs, he⟩, hv⟩ := hv
    obtain ⟨d2, mc2, ms2, Q, hM, hd9, hc9, hs9, hv, hx⟩ := hv
    refine aw_callF (rest := []) (x := ⟨"java/util/Iterator", "next", "()Ljava/lang/Object;"⟩) hM he rfl (by decide +kernel : aNoMH ⟨"java/util/Iterator", "next", "()Ljava/lang/Object;"⟩ 0) (by decide +kernel) q1553 q1558 q1556 q147 q1560 dX5_arrangements_23 rfl hd9 (by decide) (Nat.le_of_ble_eq_true rfl) hc9 hs9 ?_ ?_
    rotate_left
    · exact fun E h2 q => aX_out (hx E h2 q) rfl hc9 hs9
    intro v9 h7 hq
    have hv := hv v9 h7 hq
    obtain ⟨a6, rfl, hv⟩ := hv
    refine aw_eqv (pc2 := 28) (st2 := [.ref a6]) rfl rfl rfl rfl ?_
    revert hv hc9 hs9; generalize c3 + mc2 = c8; generalize s4 + ms2 = s9; intro hc9 hs9 hv
    obtain ⟨⟨n9, f9, he⟩, hv⟩ := hv
    refine aw_castI q1568 he dX5_arrangements_28 ?_
    refine aw_astore (lv' := [(4, .ref a6), (0, .ref x0), (1, .int x1), (2, .int x2), (3, .ref x3)]) dX5_arrangements_31 (Nat.le_of_ble_eq_true rfl) rfl ?_
    refine aw_iload_n 3 dX5_arrangements_33 rfl rfl ?_
    refine aw_aload_n 1 (x := x0) dX5_arrangements_34 rfl rfl ?_
    refine aw_iload_n 2 dX5_arrangements_35 rfl rfl ?_
    refine aw_aload 0 (x := a6) dX5_arrangements_36 rfl ?_
    obtain ⟨⟨fs, he⟩, hv⟩ := hv
    obtain ⟨d2, mc2, ms2, Q, hM, hd9, hc9, hs9, hv, hx⟩ := hv
    refine aw_callV (rest := [.int x2]) hM he rfl rfl nX5_canHave q651 q653 qs10 q132 q654 dX5_arrangements_38 rfl hd9 (by decide) (Nat.le_of_ble_eq_true rfl) hc9 hs9 ?_ ?_
    rotate_left
    · exact fun E h2 q => aX_out (hx E h2 q) rfl hc9 hs9
    intro v9 h11 hq
    have hv := hv v9 h11 hq
    obtain ⟨y10, rfl, hv⟩ := hv
    refine aw_eqv (pc2 := 41) (st2 := [.int y10, .int x2]) rfl rfl rfl rfl ?_
    revert hv hc9 hs9; generalize c8 + mc2 = c12; generalize s9 + ms2 = s13; intro hc9 hs9 hv
    have J9 : AW l G mX5_arrangements d mc ms P 49 [(4, .ref a6), (0, .ref x0), (1, .int x1), (2, .int x2), (3, .ref x3)] [.int (if y10 = 0 then (0 : Int32) else 1), .int x2] h11 c12 s13 := by
      refine aw_iadd dX5_arrangements_49 ?_
      refine aw_topi (fun v15 ev15 => ?_)
      have hv := hv v15 ev15
      refine aw_istore_n (lv' := [(2, .int v15), (4, .ref a6), (0, .ref x0), (1, .int x1), (3, .ref x3)]) dX5_arrangements_50 rfl (Nat.le_of_ble_eq_true rfl) rfl ?_
      refine aw_goto 13 dX5_arrangements_51 (by decide) ?_
      refine aw_sub [2, 3, 0, 4] rfl ?_
      exact hv hc9 hs9
    refine aw_if_eq 48 dX5_arrangements_41 (by decide) (fun c14 => ?_) (fun c14 => ?_)
    · have J9 := aw_ifT c14 J9
      refine aw_iconst (v := 0) dX5_arrangements_48 (by decide) ?_
      exact J9
    · have J9 := aw_ifF c14 J9
      refine aw_iconst (v := 1) dX5_arrangements_44 (by decide) ?_
      refine aw_goto 49 dX5_arrangements_45 (by decide) ?_
      exact J9
def V_X5_arrangements_0 (l : Launch) (G : aG) (d mc ms : Nat) (P : aR → aH → Prop) (x0 : Nat) (x1 : Int32) (h : aH) : Prop :=
  vR h x0 5 0 fun a16 =>
  vO h a16 3 3 fun o17 =>
  vSome o17 fun q18 =>
  vIs h q18 4 (
  vC l G mX4_iterator (wsN mX4_iterator) d mc ms [.ref q18] h 0 0 (xP P) (kR fun a19 h20 c21 s22 => 
  T_X5_arrangements_13 l G d mc ms P x0 x1 0 a19 h20 c21 s22))
set_option maxHeartbeats 4000000 in
theorem A_X5_arrangements {l : Launch} {G : aG} {d mc ms : Nat} {P : aR → aH → Prop} {x0 : Nat} {x1 : Int32} {h : aH} (hl : l.stackTraces = false) (hv : V_X5_arrangements_0 l G d mc ms P x0 x1 h) : aC l G mX5_arrangements (wsN mX5_arrangements) d mc ms [.ref x0, .int x1] h P := by
  refine aC_ofF (M := mX5_arrangements) rfl pX5_arrangements (Nat.le_of_ble_eq_true rfl) hl ?_
  refine aw_eqv (lv2 := [(0, .ref x0), (1, .int x1)]) rfl rfl rfl rfl ?_
  unfold V_X5_arrangements_0 at hv
  refine aw_iconst (v := 0) dX5_arrangements_0 (by decide) ?_
  refine aw_istore_n (lv' := [(2, .int 0), (0, .ref x0), (1, .int x1)]) dX5_arrangements_1 rfl (Nat.le_of_ble_eq_true rfl) rfl ?_
  refine aw_aload_n 1 (x := x0) dX5_arrangements_2 rfl rfl ?_
  obtain ⟨fs, a16, he, hx, hv⟩ := hv
  refine aw_get (v := .ref a16) he rfl in_X5 0 (by decide) q376 (Or.inl rfl) hx dX5_arrangements_3 ?_
  obtain ⟨fs, o17, he, hx, hv⟩ := hv
  refine aw_getN (v := va_rf o17) he rfl in_X3 3 (by decide) q329 (Or.inl rfl) hx dX5_arrangements_6 ?_
  obtain ⟨q18, hq9, hv⟩ := hv
  subst hq9
  refine aw_eqv (lv2 := [(2, .int 0), (0, .ref x0), (1, .int x1)]) (st2 := [.ref q18]) rfl rfl rfl rfl ?_
  obtain ⟨⟨fs, he⟩, hv⟩ := hv
  obtain ⟨d2, mc2, ms2, Q, hM, hd9, hc9, hs9, hv, hx⟩ := hv
  refine aw_callV (rest := []) hM he rfl rfl nX4_iterator q1523 q1524 q1525 q122 q1526 dX5_arrangements_9 rfl hd9 (by decide) (Nat.le_of_ble_eq_true rfl) hc9 hs9 ?_ ?_
  rotate_left
  · exact fun E h2 q => aX_out (hx E h2 q) rfl hc9 hs9
  intro v9 h20 hq
  have hv := hv v9 h20 hq
  obtain ⟨a19, rfl, hv⟩ := hv
  refine aw_eqv (pc2 := 12) (st2 := [.ref a19]) rfl rfl rfl rfl ?_
  revert hv hc9 hs9; generalize 0 + mc2 = c21; generalize 0 + ms2 = s22; intro hc9 hs9 hv
  refine aw_astore_n (lv' := [(3, .ref a19), (2, .int 0), (0, .ref x0), (1, .int x1)]) dX5_arrangements_12 rfl (Nat.le_of_ble_eq_true rfl) rfl ?_
  refine aw_sub [2, 3, 1, 0] rfl ?_
  exact hv hc9 hs9
def T_X5_countFrom_73 (l : Launch) (G : aG) (d mc ms : Nat) (P : aR → aH → Prop) (x0 : Nat) (x1 : Int32) (x2 : Int32) (x3 : Int32) (x4 : Nat) (x5 : Int32) (x7 : Int32) (x8 : Int32) (h : aH) (c s : Nat) : Prop := c ≤ mc → s ≤ ms → AW l G mX5_countFrom d mc ms P 73 [(0, .ref x0), (1, .int x1), (2, .int x2), (3, .int x3), (4, .ref x4), (5, .int x5), (7, .int x7), (8, .int x8)] [] h c s
def T_X5_countFrom_129 (l : Launch) (G : aG) (d mc ms : Nat) (P : aR → aH → Prop) (x0 : Nat) (x1 : Int32) (x2 : Int32) (x3 : Int32) (x4 : Nat) (x5 : Int32) (x7 : Int32) (x8 : Int32) (x9 : Int32) (x10 : Int32) (h : aH) (c s : Nat) : Prop := c ≤ mc → s ≤ ms → AW l G mX5_countFrom d mc ms P 129 [(0, .ref x0), (1, .int x1), (2, .int x2), (3, .int x3), (4, .ref x4), (5, .int x5), (7, .int x7), (8, .int x8), (9, .int x9), (10, .int x10)] [] h c s
def V_X5_countFrom_73 (l : Launch) (G : aG) (d mc ms : Nat) (P : aR → aH → Prop) (x0 : Nat) (x1 : Int32) (x2 : Int32) (x3 : Int32) (x4 : Nat) (x5 : Int32) (x7 : Int32) (x8 : Int32) (h : aH) (c s : Nat) : Prop :=
  (x8 = 0 → 
    P (.inl (some (.int x5))) h
    ) ∧ (¬ x8 = 0 → 
    vC l G mJ6_numberOfTrailingZeros (wsN mJ6_numberOfTrailingZeros) d mc ms [.int x8] h c s (xP P) (kI fun y2 h3 c4 s5 => 
    vR h3 x0 5 0 fun a6 =>
    vI h3 a6 3 5 fun y7 =>
    vSt .int h3 x4 x2 y2 fun h9 =>
    ((if y2 = y7 then (1 : Int32) else 0) = 0 → 
      T_X5_countFrom_129 l G d mc ms P x0 x1 x2 x3 x4 x5 x7 x8 y2 (if y2 = y7 then (1 : Int32) else 0) h9 c4 s5
      ) ∧ (¬ (if y2 = y7 then (1 : Int32) else 0) = 0 → 
      vR h9 x0 5 0 fun a11 =>
      vI h9 a11 3 4 fun y12 =>
      ((y12 - x2) ≤ x7 → 
        T_X5_countFrom_73 l G d mc ms P x0 x1 x2 x3 x4 x5 x7 (x8 &&& (x8 - (1 : Int32))) h9 c4 s5
        ) ∧ (¬ (y12 - x2) ≤ x7 → 
        T_X5_countFrom_129 l G d mc ms P x0 x1 x2 x3 x4 x5 x7 x8 y2 (if y2 = y7 then (1 : Int32) else 0) h9 c4 s5
        )
      ))
    )
set_option maxHeartbeats 4000000 in
theorem A_X5_countFrom_73 {l : Launch} {G : aG} {d mc ms : Nat} {P : aR → aH → Prop} {x0 : Nat} {x1 : Int32} {x2 : Int32} {x3 : Int32} {x4 : Nat} {x5 : Int32} {x7 : Int32} {x8 : Int32} {h : aH} {c s : Nat} (hl : l.stackTraces = false) (hv : V_X5_countFrom_73 l G d mc ms P x0 x1 x2 x3 x4 x5 x7 x8 h c s) : T_X5_countFrom_73 l G d mc ms P x0 x1 x2 x3 x4 x5 x7 x8 h c s := by
  intro hc hs
  unfold V_X5_countFrom_73 at hv
  refine aw_iload 7 dX5_countFrom_73 rfl ?_
  refine aw_if_eq 171 dX5_countFrom_75 (by decide) (fun c1 => ?_) (fun c1 => ?_)
  · have hv := hv.1 c1
    refine aw_iload 5 dX5_countFrom_171 rfl ?_
    exact aw_iret rfl dX5_countFrom_173 hv hc hs
  · have hv := hv.2 c1
    refine aw_iload 7 dX5_countFrom_78 rfl ?_
    obtain ⟨d2, mc2, ms2, Q, hM, hd9, hc9, hs9, hv, hx⟩ := hv
    refine aw_callS (rest := []) hM nJ6_numberOfTrailingZeros q700 q543 q131 q544 dX5_countFrom_80 rfl hd9 (by decide) (Nat.le_of_ble_eq_true rfl) hc9 hs9 ?_ ?_
    rotate_left
    · exact fun E h2 q => aX_out (hx E h2 q) rfl hc9 hs9
    intro v9 h3 hq
    have hv := hv v9 h3 hq
    obtain ⟨y2, rfl, hv⟩ := hv
    refine aw_eqv (pc2 := 83) (st2 := [.int y2]) rfl rfl rfl rfl ?_
    revert hv hc9 hs9; generalize c + mc2 = c4; generalize s + ms2 = s5; intro hc9 hs9 hv
    refine aw_istore (lv' := [(9, .int y2), (0, .ref x0), (1, .int x1), (2, .int x2), (3, .int x3), (4, .ref x4), (5, .int x5), (7, .int x7), (8, .int x8)]) dX5_countFrom_83 (Nat.le_of_ble_eq_true rfl) rfl ?_
    refine aw_iload 0 dX5_countFrom_85 rfl ?_
    refine aw_aload_n 1 (x := x0) dX5_countFrom_87 rfl rfl ?_
    obtain ⟨fs, a6, he, hx, hv⟩ := hv
    refine aw_get (v := .ref a6) he rfl in_X5 0 (by decide) q376 (Or.inl rfl) hx dX5_countFrom_88 ?_
    obtain ⟨fs, y7, he, hx, hv⟩ := hv
    refine aw_getN (v := .int y7) he rfl in_X3 5 (by decide) q333 (Or.inl rfl) hx dX5_countFrom_91 ?_
    have J9 : AW l G mX5_countFrom d mc ms P 102 [(9, .int y2), (0, .ref x0), (1, .int x1), (2, .int x2), (3, .int x3), (4, .ref x4), (5, .int x5), (7, .int x7), (8, .int x8)] [.int (if y2 = y7 then (1 : Int32) else 0)] h3 c4 s5 := by
      refine aw_istore (lv' := [(10, .int (if y2 = y7 then (1 : Int32) else 0)), (9, .int y2), (0, .ref x0), (1, .int x1), (2, .int x2), (3, .int x3), (4, .ref x4), (5, .int x5), (7, .int x7), (8, .int x8)]) dX5_countFrom_102 (Nat.le_of_ble_eq_true rfl) rfl ?_
      refine aw_aload 6 (x := x4) dX5_countFrom_104 rfl ?_
      refine aw_iload_n 4 dX5_countFrom_106 rfl rfl ?_
      refine aw_iload 1 dX5_countFrom_107 rfl ?_
      obtain ⟨n9, f9, he, hin, hv⟩ := hv
      refine aw_iast he hin rfl dX5_countFrom_109 ?_
      revert hv; generalize aUp h3 x4 (aInts .int n9 (upd f9 (x2).toNatClampNeg y2)) = h9; intro hv
      refine aw_iload 0 dX5_countFrom_110 rfl ?_
      refine aw_if_eq 129 dX5_countFrom_112 (by decide) (fun c10 => ?_) (fun c10 => ?_)
      · have hv := hv.1 c10
        refine aw_sub [2, 3, 4, 5, 6, 7, 8, 9, 1, 0] rfl ?_
        exact hv hc9 hs9
      · have hv := hv.2 c10
        refine aw_aload_n 2 (x := x0) dX5_countFrom_115 rfl rfl ?_
        obtain ⟨fs, a11, he, hx, hv⟩ := hv
        refine aw_get (v := .ref a11) he rfl in_X5 0 (by decide) q376 (Or.inl rfl) hx dX5_countFrom_116 ?_
        obtain ⟨fs, y12, he, hx, hv⟩ := hv
        refine aw_getN (v := .int y12) he rfl in_X3 4 (by decide) q331 (Or.inl rfl) hx dX5_countFrom_119 ?_
        refine aw_iload_n 4 dX5_countFrom_122 rfl rfl ?_
        refine aw_isub dX5_countFrom_123 ?_
        refine aw_iload 8 dX5_countFrom_124 rfl ?_
        refine aw_icmp_le 159 dX5_countFrom_126 (by decide) (fun c13 => ?_) (fun c13 => ?_)
        · have hv := hv.1 c13
          refine aw_iload 9 dX5_countFrom_159 rfl ?_
          refine aw_iload 9 dX5_countFrom_161 rfl ?_
          refine aw_iconst (v := 1) dX5_countFrom_163 (by decide) ?_
          refine aw_isub dX5_countFrom_164 ?_
          refine aw_iand dX5_countFrom_165 ?_
          refine aw_istore (lv' := [(8, .int (x8 &&& (x8 - (1 : Int32)))), (10, .int (if y2 = y7 then (1 : Int32) else 0)), (9, .int y2), (0, .ref x0), (1, .int x1), (2, .int x2), (3, .int x3), (4, .ref x4), (5, .int x5), (7, .int x7)]) dX5_countFrom_166 (Nat.le_of_ble_eq_true rfl) rfl ?_
          refine aw_goto 73 dX5_countFrom_168 (by decide) ?_
          refine aw_sub [3, 4, 5, 6, 7, 8, 9, 0] rfl ?_
          exact hv hc9 hs9
        · have hv := hv.2 c13
          refine aw_sub [2, 3, 4, 5, 6, 7, 8, 9, 1, 0] rfl ?_
          exact hv hc9 hs9
    refine aw_icmp_ne 101 dX5_countFrom_94 (by decide) (fun c8 => ?_) (fun c8 => ?_)
    · have J9 := aw_ifF c8 J9
      refine aw_iconst (v := 0) dX5_countFrom_101 (by decide) ?_
      exact J9
    · have J9 := aw_ifT c8 J9
      refine aw_iconst (v := 1) dX5_countFrom_97 (by decide) ?_
      refine aw_goto 102 dX5_countFrom_98 (by decide) ?_
      exact J9
def V_X5_countFrom_129 (l : Launch) (G : aG) (d mc ms : Nat) (P : aR → aH → Prop) (x0 : Nat) (x1 : Int32) (x2 : Int32) (x3 : Int32) (x4 : Nat) (x5 : Int32) (x7 : Int32) (x8 : Int32) (x9 : Int32) (x10 : Int32) (h : aH) (c s : Nat) : Prop :=
  vIs h x0 5 (
  vC l G mX5_countFrom (wsN mX5_countFrom) d mc ms [.ref x0, .int x1, .int (x2 + (1 : Int32)), .int (if x10 = 0 then (x3 ||| ((1 : Int32) <<< (x9 &&& 31))) else x3), .ref x4] h c s (xP P) (kI fun y15 h16 c17 s18 => 
  T_X5_countFrom_73 l G d mc ms P x0 x1 x2 x3 x4 (x5 + y15) x7 (x8 &&& (x8 - (1 : Int32))) h16 c17 s18))
set_option maxHeartbeats 4000000 in
theorem A_X5_countFrom_129 {l : Launch} {G : aG} {d mc ms : Nat} {P : aR → aH → Prop} {x0 : Nat} {x1 : Int32} {x2 : Int32} {x3 : Int32} {x4 : Nat} {x5 : Int32} {x7 : Int32} {x8 : Int32} {x9 : Int32} {x10 : Int32} {h : aH} {c s : Nat} (hl : l.stackTraces = false) (hv : V_X5_countFrom_129 l G d mc ms P x0 x1 x2 x3 x4 x5 x7 x8 x9 x10 h c s) : T_X5_countFrom_129 l G d mc ms P x0 x1 x2 x3 x4 x5 x7 x8 x9 x10 h c s := by
  intro hc hs
  unfold V_X5_countFrom_129 at hv
  refine aw_iload 5 dX5_countFrom_129 rfl ?_
  refine aw_aload_n 0 (x := x0) dX5_countFrom_131 rfl rfl ?_
  refine aw_iload_n 1 dX5_countFrom_132 rfl rfl ?_
  refine aw_iload_n 2 dX5_countFrom_133 rfl rfl ?_
  refine aw_iconst (v := 1) dX5_countFrom_134 (by decide) ?_
  refine aw_iadd dX5_countFrom_135 ?_
  refine aw_iload 9 dX5_countFrom_136 rfl ?_
  have J9 : AW l G mX5_countFrom d mc ms P 151 [(0, .ref x0), (1, .int x1), (2, .int x2), (3, .int x3), (4, .ref x4), (5, .int x5), (7, .int x7), (8, .int x8), (9, .int x9), (10, .int x10)] [.int (if x10 = 0 then (x3 ||| ((1 : Int32) <<< (x9 &&& 31))) else x3), .int (x2 + (1 : Int32)), .int x1, .ref x0, .int x5] h c s := by
    refine aw_aload 4 (x := x4) dX5_countFrom_151 rfl ?_
    obtain ⟨⟨fs, he⟩, hv⟩ := hv
    obtain ⟨d2, mc2, ms2, Q, hM, hd9, hc9, hs9, hv, hx⟩ := hv
    refine aw_callV (rest := [.int x5]) hM he rfl rfl nX5_countFrom q1580 q1577 q1578 q132 q1579 dX5_countFrom_153 rfl hd9 (by decide) (Nat.le_of_ble_eq_true rfl) hc9 hs9 ?_ ?_
    rotate_left
    · exact fun E h2 q => aX_out (hx E h2 q) rfl hc9 hs9
    intro v9 h16 hq
    have hv := hv v9 h16 hq
    obtain ⟨y15, rfl, hv⟩ := hv
    refine aw_eqv (pc2 := 156) (st2 := [.int y15, .int x5]) rfl rfl rfl rfl ?_
    revert hv hc9 hs9; generalize c + mc2 = c17; generalize s + ms2 = s18; intro hc9 hs9 hv
    refine aw_iadd dX5_countFrom_156 ?_
    refine aw_istore (lv' := [(5, .int (x5 + y15)), (0, .ref x0), (1, .int x1), (2, .int x2), (3, .int x3), (4, .ref x4), (7, .int x7), (8, .int x8), (9, .int x9), (10, .int x10)]) dX5_countFrom_157 (Nat.le_of_ble_eq_true rfl) rfl ?_
    refine aw_iload 7 dX5_countFrom_159 rfl ?_
    refine aw_iload 7 dX5_countFrom_161 rfl ?_
    refine aw_iconst (v := 1) dX5_countFrom_163 (by decide) ?_
    refine aw_isub dX5_countFrom_164 ?_
    refine aw_iand dX5_countFrom_165 ?_
    refine aw_istore (lv' := [(8, .int (x8 &&& (x8 - (1 : Int32)))), (5, .int (x5 + y15)), (0, .ref x0), (1, .int x1), (2, .int x2), (3, .int x3), (4, .ref x4), (7, .int x7), (9, .int x9), (10, .int x10)]) dX5_countFrom_166 (Nat.le_of_ble_eq_true rfl) rfl ?_
    refine aw_goto 73 dX5_countFrom_168 (by decide) ?_
    refine aw_sub [2, 3, 4, 5, 6, 1, 7, 0] rfl ?_
    exact hv hc9 hs9
  refine aw_if_eq 145 dX5_countFrom_138 (by decide) (fun c14 => ?_) (fun c14 => ?_)
  · have J9 := aw_ifT c14 J9
    refine aw_iload_n 3 dX5_countFrom_145 rfl rfl ?_
    refine aw_iconst (v := 1) dX5_countFrom_146 (by decide) ?_
    refine aw_iload 8 dX5_countFrom_147 rfl ?_
    refine aw_ishl dX5_countFrom_149 ?_
    refine aw_ior dX5_countFrom_150 ?_
    exact J9
  · have J9 := aw_ifF c14 J9
    refine aw_iload_n 3 dX5_countFrom_141 rfl rfl ?_
    refine aw_goto 151 dX5_countFrom_142 (by decide) ?_
    exact J9
def V_X5_countFrom_0 (l : Launch) (G : aG) (d mc ms : Nat) (P : aR → aH → Prop) (x0 : Nat) (x1 : Int32) (x2 : Int32) (x3 : Int32) (x4 : Nat) (h : aH) : Prop :=
  vR h x0 5 0 fun a19 =>
  vI h a19 3 4 fun y20 =>
  (¬ x2 = y20 → 
    vR h x0 5 1 fun a22 =>
    vR h x0 5 0 fun a23 =>
    vR h a23 3 1 fun a24 =>
    vAR (.array .int) h a24 x1 fun a25 =>
    vA .int h a25 x2 fun y26 =>
    vA .int h a22 y26 fun y27 =>
    vR h x0 5 0 fun a28 =>
    vI h a28 3 5 fun y29 =>
    vC l G mJ6_bitCount (wsN mJ6_bitCount) d mc ms [.int x3] h 0 0 (xP P) (kI fun y30 h31 c32 s33 => 
    T_X5_countFrom_73 l G d mc ms P x0 x1 x2 x3 x4 0 (y29 - y30) (y27 &&& (x3 ^^^ ((-1) : Int32))) h31 c32 s33)
    ) ∧ (x2 = y20 → 
    vR h x0 5 0 fun a34 =>
    vIs h a34 3 (
    vC l G mX3_isTrue (wsN mX3_isTrue) d mc ms [.ref a34, .int x1, .ref x4] h 0 0 (xP P) (kI fun y35 h36 c37 s38 => 
    P (.inl (some (.int (if y35 = 0 then (0 : Int32) else 1)))) h36))
    )
set_option maxHeartbeats 4000000 in
theorem A_X5_countFrom {l : Launch} {G : aG} {d mc ms : Nat} {P : aR → aH → Prop} {x0 : Nat} {x1 : Int32} {x2 : Int32} {x3 : Int32} {x4 : Nat} {h : aH} (hl : l.stackTraces = false) (hv : V_X5_countFrom_0 l G d mc ms P x0 x1 x2 x3 x4 h) : aC l G mX5_countFrom (wsN mX5_countFrom) d mc ms [.ref x0, .int x1, .int x2, .int x3, .ref x4] h P := by
  refine aC_ofF (M := mX5_countFrom) rfl pX5_countFrom (Nat.le_of_ble_eq_true rfl) hl ?_
  refine aw_eqv (lv2 := [(0, .ref x0), (1, .int x1), (2, .int x2), (3, .int x3), (4, .ref x4)]) rfl rfl rfl rfl ?_
  unfold V_X5_countFrom_0 at hv
  refine aw_iload_n 2 dX5_countFrom_0 rfl rfl ?_
  refine aw_aload_n 0 (x := x0) dX5_countFrom_1 rfl rfl ?_
  obtain ⟨fs, a19, he, hx, hv⟩ := hv
  refine aw_get (v := .ref a19) he rfl in_X5 0 (by decide) q376 (Or.inl rfl) hx dX5_countFrom_2 ?_
  obtain ⟨fs, y20, he, hx, hv⟩ := hv
  refine aw_getN (v := .int y20) he rfl in_X3 4 (by decide) q331 (Or.inl rfl) hx dX5_countFrom_5 ?_
  refine aw_icmp_ne 30 dX5_countFrom_8 (by decide) (fun c21 => ?_) (fun c21 => ?_)
  · have hv := hv.1 c21
    refine aw_iconst (v := 0) dX5_countFrom_30 (by decide) ?_
    refine aw_istore (lv' := [(5, .int 0), (0, .ref x0), (1, .int x1), (2, .int x2), (3, .int x3), (4, .ref x4)]) dX5_countFrom_31 (Nat.le_of_ble_eq_true rfl) rfl ?_
    refine aw_aload_n 1 (x := x0) dX5_countFrom_33 rfl rfl ?_
    obtain ⟨fs, a22, he, hx, hv⟩ := hv
    refine aw_get (v := .ref a22) he rfl in_X5 1 (by decide) q377 (Or.inl rfl) hx dX5_countFrom_34 ?_
    refine aw_aload_n 1 (x := x0) dX5_countFrom_37 rfl rfl ?_
    obtain ⟨fs, a23, he, hx, hv⟩ := hv
    refine aw_get (v := .ref a23) he rfl in_X5 0 (by decide) q376 (Or.inl rfl) hx dX5_countFrom_38 ?_
    obtain ⟨fs, a24, he, hx, hv⟩ := hv
    refine aw_getN (v := .ref a24) he rfl in_X3 1 (by decide) q324 (Or.inl rfl) hx dX5_countFrom_41 ?_
    refine aw_iload_n 2 dX5_countFrom_44 rfl rfl ?_
    obtain ⟨n9, f9, a25, he, hin, hx, hv⟩ := hv
    refine aw_aald 7 rfl rfl he hin dX5_countFrom_45 ?_
    rw [hx]
    refine aw_eqv (st2 := [.ref a25, .ref a22]) rfl rfl rfl rfl ?_
    refine aw_iload_n 3 dX5_countFrom_46 rfl rfl ?_
    obtain ⟨n9, f9, he, hin, hv⟩ := hv
    refine aw_iald he hin dX5_countFrom_47 ?_
    revert hv; generalize f9 (x2).toNatClampNeg = y26; intro hv
    obtain ⟨n9, f9, he, hin, hv⟩ := hv
    refine aw_iald he hin dX5_countFrom_48 ?_
    revert hv; generalize f9 (y26).toNatClampNeg = y27; intro hv
    refine aw_iload_n 4 dX5_countFrom_49 rfl rfl ?_
    refine aw_iconst (v := (-1)) dX5_countFrom_50 (by decide) ?_
    refine aw_ixor dX5_countFrom_51 ?_
    refine aw_iand dX5_countFrom_52 ?_
    refine aw_istore (lv' := [(6, .int (y27 &&& (x3 ^^^ ((-1) : Int32)))), (5, .int 0), (0, .ref x0), (1, .int x1), (2, .int x2), (3, .int x3), (4, .ref x4)]) dX5_countFrom_53 (Nat.le_of_ble_eq_true rfl) rfl ?_
    refine aw_aload_n 2 (x := x0) dX5_countFrom_55 rfl rfl ?_
    obtain ⟨fs, a28, he, hx, hv⟩ := hv
    refine aw_get (v := .ref a28) he rfl in_X5 0 (by decide) q376 (Or.inl rfl) hx dX5_countFrom_56 ?_
    obtain ⟨fs, y29, he, hx, hv⟩ := hv
    refine aw_getN (v := .int y29) he rfl in_X3 5 (by decide) q333 (Or.inl rfl) hx dX5_countFrom_59 ?_
    refine aw_iload_n 5 dX5_countFrom_62 rfl rfl ?_
    obtain ⟨d2, mc2, ms2, Q, hM, hd9, hc9, hs9, hv, hx⟩ := hv
    refine aw_callS (rest := [.int y29]) hM nJ6_bitCount q746 q292 q131 q293 dX5_countFrom_63 rfl hd9 (by decide) (Nat.le_of_ble_eq_true rfl) hc9 hs9 ?_ ?_
    rotate_left
    · exact fun E h2 q => aX_out (hx E h2 q) rfl hc9 hs9
    intro v9 h31 hq
    have hv := hv v9 h31 hq
    obtain ⟨y30, rfl, hv⟩ := hv
    refine aw_eqv (pc2 := 66) (st2 := [.int y30, .int y29]) rfl rfl rfl rfl ?_
    revert hv hc9 hs9; generalize 0 + mc2 = c32; generalize 0 + ms2 = s33; intro hc9 hs9 hv
    refine aw_isub dX5_countFrom_66 ?_
    refine aw_istore (lv' := [(7, .int (y29 - y30)), (6, .int (y27 &&& (x3 ^^^ ((-1) : Int32)))), (5, .int 0), (0, .ref x0), (1, .int x1), (2, .int x2), (3, .int x3), (4, .ref x4)]) dX5_countFrom_67 (Nat.le_of_ble_eq_true rfl) rfl ?_
    refine aw_iload 1 dX5_countFrom_69 rfl ?_
    refine aw_istore (lv' := [(8, .int (y27 &&& (x3 ^^^ ((-1) : Int32)))), (7, .int (y29 - y30)), (6, .int (y27 &&& (x3 ^^^ ((-1) : Int32)))), (5, .int 0), (0, .ref x0), (1, .int x1), (2, .int x2), (3, .int x3), (4, .ref x4)]) dX5_countFrom_71 (Nat.le_of_ble_eq_true rfl) rfl ?_
    refine aw_sub [4, 5, 6, 7, 8, 3, 1, 0] rfl ?_
    exact hv hc9 hs9
  · have hv := hv.2 c21
    refine aw_aload_n 0 (x := x0) dX5_countFrom_11 rfl rfl ?_
    obtain ⟨fs, a34, he, hx, hv⟩ := hv
    refine aw_get (v := .ref a34) he rfl in_X5 0 (by decide) q376 (Or.inl rfl) hx dX5_countFrom_12 ?_
    refine aw_iload_n 1 dX5_countFrom_15 rfl rfl ?_
    refine aw_aload 4 (x := x4) dX5_countFrom_16 rfl ?_
    obtain ⟨⟨fs, he⟩, hv⟩ := hv
    obtain ⟨d2, mc2, ms2, Q, hM, hd9, hc9, hs9, hv, hx⟩ := hv
    refine aw_callV (rest := []) hM he rfl rfl nX3_isTrue q656 q657 q658 q121 q659 dX5_countFrom_18 rfl hd9 (by decide) (Nat.le_of_ble_eq_true rfl) hc9 hs9 ?_ ?_
    rotate_left
    · exact fun E h2 q => aX_out (hx E h2 q) rfl hc9 hs9
    intro v9 h36 hq
    have hv := hv v9 h36 hq
    obtain ⟨y35, rfl, hv⟩ := hv
    refine aw_eqv (pc2 := 21) (st2 := [.int y35]) rfl rfl rfl rfl ?_
    revert hv hc9 hs9; generalize 0 + mc2 = c37; generalize 0 + ms2 = s38; intro hc9 hs9 hv
    have J9 : AW l G mX5_countFrom d mc ms P 29 [(0, .ref x0), (1, .int x1), (2, .int x2), (3, .int x3), (4, .ref x4)] [.int (if y35 = 0 then (0 : Int32) else 1)] h36 c37 s38 := by
      exact aw_iret rfl dX5_countFrom_29 hv hc9 hs9
    refine aw_if_eq 28 dX5_countFrom_21 (by decide) (fun c39 => ?_) (fun c39 => ?_)
    · have J9 := aw_ifT c39 J9
      refine aw_iconst (v := 0) dX5_countFrom_28 (by decide) ?_
      exact J9
    · have J9 := aw_ifF c39 J9
      refine aw_iconst (v := 1) dX5_countFrom_24 (by decide) ?_
      refine aw_goto 29 dX5_countFrom_25 (by decide) ?_
      exact J9
def T_X5_reasonFor_3 (l : Launch) (G : aG) (d mc ms : Nat) (P : aR → aH → Prop) (x0 : Nat) (x1 : Int32) (x2 : Int32) (x3 : Nat) (x4 : Int32) (h : aH) (c s : Nat) : Prop := c ≤ mc → s ≤ ms → AW l G mX5_reasonFor d mc ms P 3 [(0, .ref x0), (1, .int x1), (2, .int x2), (3, .ref x3), (4, .int x4)] [] h c s
def V_X5_reasonFor_3 (l : Launch) (G : aG) (d mc ms : Nat) (P : aR → aH → Prop) (x0 : Nat) (x1 : Int32) (x2 : Int32) (x3 : Nat) (x4 : Int32) (h : aH) (c s : Nat) : Prop :=
  (6 < x4 → 
    P (.inl (some (.int 0))) h
    ) ∧ (¬ 6 < x4 → 
    vIs h x0 5 (
    vC l G mX5_holds (wsN mX5_holds) d mc ms [.ref x0, .int x4, .int x1, .int x2, .ref x3] h c s (xP P) (kI fun y2 h3 c4 s5 => 
    (y2 = 0 → 
      T_X5_reasonFor_3 l G d mc ms P x0 x1 x2 x3 (x4 + 1) h3 c4 s5
      ) ∧ (¬ y2 = 0 → 
      P (.inl (some (.int x4))) h3
      )))
    )
set_option maxHeartbeats 4000000 in
theorem A_X5_reasonFor_3 {l : Launch} {G : aG} {d mc ms : Nat} {P : aR → aH → Prop} {x0 : Nat} {x1 : Int32} {x2 : Int32} {x3 : Nat} {x4 : Int32} {h : aH} {c s : Nat} (hl : l.stackTraces = false) (hv : V_X5_reasonFor_3 l G d mc ms P x0 x1 x2 x3 x4 h c s) : T_X5_reasonFor_3 l G d mc ms P x0 x1 x2 x3 x4 h c s := by
  intro hc hs
  unfold V_X5_reasonFor_3 at hv
  refine aw_iload 4 dX5_reasonFor_3 rfl ?_
  refine aw_bipush (v := 6) dX5_reasonFor_5 (by decide) ?_
  refine aw_icmp_gt 31 dX5_reasonFor_7 (by decide) (fun c1 => ?_) (fun c1 => ?_)
  · have hv := hv.1 c1
    refine aw_iconst (v := 0) dX5_reasonFor_31 (by decide) ?_
    exact aw_iret rfl dX5_reasonFor_32 hv hc hs
  · have hv := hv.2 c1
    refine aw_aload_n 0 (x := x0) dX5_reasonFor_10 rfl rfl ?_
    refine aw_iload 4 dX5_reasonFor_11 rfl ?_
    refine aw_iload_n 1 dX5_reasonFor_13 rfl rfl ?_
    refine aw_iload_n 2 dX5_reasonFor_14 rfl rfl ?_
    refine aw_aload_n 3 (x := x3) dX5_reasonFor_15 rfl rfl ?_
    obtain ⟨⟨fs, he⟩, hv⟩ := hv
    obtain ⟨d2, mc2, ms2, Q, hM, hd9, hc9, hs9, hv, hx⟩ := hv
    refine aw_callV (rest := []) hM he rfl rfl nX5_holds q701 q702 q703 q132 q704 dX5_reasonFor_16 rfl hd9 (by decide) (Nat.le_of_ble_eq_true rfl) hc9 hs9 ?_ ?_
    rotate_left
    · exact fun E h2 q => aX_out (hx E h2 q) rfl hc9 hs9
    intro v9 h3 hq
    have hv := hv v9 h3 hq
    obtain ⟨y2, rfl, hv⟩ := hv
    refine aw_eqv (pc2 := 19) (st2 := [.int y2]) rfl rfl rfl rfl ?_
    revert hv hc9 hs9; generalize c + mc2 = c4; generalize s + ms2 = s5; intro hc9 hs9 hv
    refine aw_if_eq 25 dX5_reasonFor_19 (by decide) (fun c6 => ?_) (fun c6 => ?_)
    · have hv := hv.1 c6
      refine aw_iinc 4 (v := x4 + 1) (lv' := [(4, .int (x4 + 1)), (0, .ref x0), (1, .int x1), (2, .int x2), (3, .ref x3)]) dX5_reasonFor_25 rfl rfl (Nat.le_of_ble_eq_true rfl) rfl ?_
      refine aw_goto 3 dX5_reasonFor_28 (by decide) ?_
      refine aw_sub [1, 2, 3, 4, 0] rfl ?_
      exact hv hc9 hs9
    · have hv := hv.2 c6
      refine aw_iload 4 dX5_reasonFor_22 rfl ?_
      exact aw_iret rfl dX5_reasonFor_24 hv hc9 hs9
def V_X5_reasonFor_0 (l : Launch) (G : aG) (d mc ms : Nat) (P : aR → aH → Prop) (x0 : Nat) (x1 : Int32) (x2 : Int32) (x3 : Nat) (h : aH) : Prop :=
  T_X5_reasonFor_3 l G d mc ms P x0 x1 x2 x3 1 h 0 0
set_option maxHeartbeats 4000000 in
theorem A_X5_reasonFor {l : Launch} {G : aG} {d mc ms : Nat} {P : aR → aH → Prop} {x0 : Nat} {x1 : Int32} {x2 : Int32} {x3 : Nat} {h : aH} (hl : l.stackTraces = false) (hv : V_X5_reasonFor_0 l G d mc ms P x0 x1 x2 x3 h) : aC l G mX5_reasonFor (wsN mX5_reasonFor) d mc ms [.ref x0, .int x1, .int x2, .ref x3] h P := by
  refine aC_ofF (M := mX5_reasonFor) rfl pX5_reasonFor (Nat.le_of_ble_eq_true rfl) hl ?_
  refine aw_eqv (lv2 := [(0, .ref x0), (1, .int x1), (2, .int x2), (3, .ref x3)]) rfl rfl rfl rfl ?_
  unfold V_X5_reasonFor_0 at hv
  refine aw_iconst (v := 1) dX5_reasonFor_0 (by decide) ?_
  refine aw_istore (lv' := [(4, .int 1), (0, .ref x0), (1, .int x1), (2, .int x2), (3, .ref x3)]) dX5_reasonFor_1 (Nat.le_of_ble_eq_true rfl) rfl ?_
  refine aw_sub [1, 2, 3, 4, 0] rfl ?_
  exact hv (Nat.zero_le _) (Nat.zero_le _)
