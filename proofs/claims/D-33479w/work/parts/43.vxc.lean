/-! reader, component (printed by gen2.py) -/
set_option maxRecDepth 100000
def V_X1_has_0 (l : Launch) (G : aG) (d mc ms : Nat) (P : aR → aH → Prop) (x0 : Int32) (x1 : Int32) (h : aH) : Prop :=
  vB (if ((x0 >>> (x1 &&& 31)) &&& (1 : Int32)) = 1 then (1 : Int32) else 0) ∧ P (.inl (some (.int (if ((x0 >>> (x1 &&& 31)) &&& (1 : Int32)) = 1 then (1 : Int32) else 0)))) h
set_option maxHeartbeats 4000000 in
theorem A_X1_has {l : Launch} {G : aG} {d mc ms : Nat} {P : aR → aH → Prop} {x0 : Int32} {x1 : Int32} {h : aH} (hl : l.stackTraces = false) (hv : V_X1_has_0 l G d mc ms P x0 x1 h) : aC l G mX1_has (wsN mX1_has) d mc ms [.int x0, .int x1] h P := by
  refine aC_ofF (M := mX1_has) rfl pX1_has (Nat.le_of_ble_eq_true rfl) hl ?_
  refine aw_eqv (lv2 := [(0, .int x0), (1, .int x1)]) rfl rfl rfl rfl ?_
  unfold V_X1_has_0 at hv
  refine aw_iload_n 0 dX1_has_0 rfl rfl ?_
  refine aw_iload_n 1 dX1_has_1 rfl rfl ?_
  refine aw_ishr dX1_has_2 ?_
  refine aw_iconst (v := 1) dX1_has_3 (by decide) ?_
  refine aw_iand dX1_has_4 ?_
  refine aw_iconst (v := 1) dX1_has_5 (by decide) ?_
  have J9 : AW l G mX1_has d mc ms P 14 [(0, .int x0), (1, .int x1)] [.int (if ((x0 >>> (x1 &&& 31)) &&& (1 : Int32)) = 1 then (1 : Int32) else 0)] h 0 0 := by
    obtain ⟨z2, hv⟩ := hv
    exact aw_zret rfl z2.nar dX1_has_14 hv (Nat.zero_le _) (Nat.zero_le _)
  refine aw_icmp_ne 13 dX1_has_6 (by decide) (fun c1 => ?_) (fun c1 => ?_)
  · have J9 := aw_ifF c1 J9
    refine aw_iconst (v := 0) dX1_has_13 (by decide) ?_
    exact J9
  · have J9 := aw_ifT c1 J9
    refine aw_iconst (v := 1) dX1_has_9 (by decide) ?_
    refine aw_goto 14 dX1_has_10 (by decide) ?_
    exact J9
def V_X1_init_0 (l : Launch) (G : aG) (d mc ms : Nat) (P : aR → aH → Prop) (x0 : Nat) (h : aH) : Prop :=
  1 ≤ d ∧
  vNew h 2 2 [.null, .null] mc ms 0 0 fun a1 h2 c3 s4 => h a1 = none →
  vC l G mX2_init (wsN mX2_init) d mc ms [.ref a1] h2 c3 s4 (xP P) (kV fun h7 c8 s9 => 
  vPut h7 x0 1 0 (.ref a1) fun h10 =>
  vR h10 x0 1 0 fun a11 =>
  vR h10 a11 2 0 fun a12 =>
  vPut h10 x0 1 1 (.ref a12) fun h13 =>
  vR h13 x0 1 0 fun a14 =>
  vR h13 a14 2 1 fun a15 =>
  vPut h13 x0 1 2 (.ref a15) fun h16 =>
  vNew h16 5 3 [.null, .null, .null] mc ms c8 s9 fun a17 h18 c19 s20 => h16 a17 = none →
  vR h18 x0 1 0 fun a22 =>
  vR h18 a22 2 0 fun a23 =>
  vC l G mX5_init (wsN mX5_init) d mc ms [.ref a17, .ref a23] h18 c19 s20 (xP P) (kV fun h25 c26 s27 => 
  vPut h25 x0 1 3 (.ref a17) fun h28 =>
  vNew h28 5 3 [.null, .null, .null] mc ms c26 s27 fun a29 h30 c31 s32 => h28 a29 = none →
  vR h30 x0 1 0 fun a34 =>
  vR h30 a34 2 0 fun a35 =>
  vC l G mX5_init (wsN mX5_init) d mc ms [.ref a29, .ref a35] h30 c31 s32 (xP P) (kV fun h37 c38 s39 => 
  vPut h37 x0 1 4 (.ref a29) fun h40 =>
  vNew h40 9 3 [.int 0, .null, .int 0] mc ms c38 s39 fun a41 h42 c43 s44 => h40 a41 = none →
  vC l G mJ2_init (wsN mJ2_init) d mc ms [.ref a41] h42 c43 s44 (xP P) (kV fun h47 c48 s49 => 
  vPut h47 x0 1 5 (.ref a41) fun h50 =>
  vNewR "EdgeLetters$Desk" h50 (2 : Int32) mc ms c48 s49 fun a51 h52 c53 s54 => h50 a51 = none →
  vPut h52 x0 1 6 (.ref a51) fun h56 =>
  vNew h56 10 4 [.null, .int 0, .int 0, .int 0] mc ms c53 s54 fun a57 h58 c59 s60 => h56 a57 = none →
  vC l G mJ8_init (wsN mJ8_init) d mc ms [.ref a57] h58 c59 s60 (xP P) (kV fun h63 c64 s65 => 
  vPut h63 x0 1 7 (.ref a57) fun h66 =>
  P (.inl none) h66)))))
set_option maxHeartbeats 4000000 in
theorem A_X1_init {l : Launch} {G : aG} {d mc ms : Nat} {P : aR → aH → Prop} {x0 : Nat} {h : aH} (hl : l.stackTraces = false) (hv : V_X1_init_0 l G d mc ms P x0 h) : aC l G mX1_init (wsN mX1_init) d mc ms [.ref x0] h P := by
  refine aC_ofF (M := mX1_init) rfl pX1_init (Nat.le_of_ble_eq_true rfl) hl ?_
  refine aw_eqv (lv2 := [(0, .ref x0)]) rfl rfl rfl rfl ?_
  unfold V_X1_init_0 at hv
  refine aw_aload_n 0 (x := x0) dX1_init_0 rfl rfl ?_
  obtain ⟨hd9, hv⟩ := hv
  refine aw_objInit q158 q159 q160 hd9 (Nat.le_of_ble_eq_true rfl) dX1_init_1 ?_
  refine aw_aload_n 0 (x := x0) dX1_init_4 rfl rfl ?_
  obtain ⟨hc9, hs9, hv⟩ := hv
  refine aw_new (N := 2) (fs := [.null, .null]) (rfl : aCl[2]? = _) in_X2 tyX2_ok q161 q162 q120 (by decide) hc9 hs9 dX1_init_5 (fun a1 g5 => ?_)
  have hv := hv a1 g5 g5
  refine aw_eqv (pc2 := 8) (st2 := [.ref a1, .ref x0]) rfl rfl rfl rfl ?_
  revert hv hc9 hs9; generalize aUp h a1 (.inr (2, [.null, .null])) = h2; generalize 0 + 1 = c3; generalize 0 + 2 = s4; intro hc9 hs9 hv
  refine aw_dup dX1_init_8 rfl ?_
  obtain ⟨d2, mc2, ms2, Q, hM, hd9, hc9, hs9, hv, hx⟩ := hv
  refine aw_callIN (rest := [.ref a1, .ref x0]) rfl hM nX2_init rfl q163 q164 q120 q165 dX1_init_9 rfl hd9 (by decide) (Nat.le_of_ble_eq_true rfl) hc9 hs9 ?_ ?_
  rotate_left
  · exact fun E h2 q => aX_out (hx E h2 q) rfl hc9 hs9
  intro v9 h7 hq
  have hv := hv v9 h7 hq
  obtain ⟨rfl, hv⟩ := hv
  refine aw_eqv (pc2 := 12) (st2 := [.ref a1, .ref x0]) rfl rfl rfl rfl ?_
  revert hv hc9 hs9; generalize c3 + mc2 = c8; generalize s4 + ms2 = s9; intro hc9 hs9 hv
  obtain ⟨fs, he, hk9, hv⟩ := hv
  refine aw_putF he rfl in_X1 tyX1_ok nmX1 0 (by decide) q434 (Or.inl rfl) rfl rfl rfl rfl rfl hk9 rfl dX1_init_12 ?_
  revert hv; generalize aUp h7 x0 (.inr (1, fs.set 0 (.ref a1))) = h10; intro hv
  refine aw_aload_n 0 (x := x0) dX1_init_15 rfl rfl ?_
  refine aw_aload_n 0 (x := x0) dX1_init_16 rfl rfl ?_
  obtain ⟨fs, a11, he, hx, hv⟩ := hv
  refine aw_get (v := .ref a11) he rfl in_X1 0 (by decide) q434 (Or.inl rfl) hx dX1_init_17 ?_
  obtain ⟨fs, a12, he, hx, hv⟩ := hv
  refine aw_getN (v := .ref a12) he rfl in_X2 0 (by decide) q388 (Or.inl rfl) hx dX1_init_20 ?_
  obtain ⟨fs, he, hk9, hv⟩ := hv
  refine aw_putF he rfl in_X1 tyX1_ok nmX1 1 (by decide) q435 (Or.inl rfl) rfl rfl rfl rfl rfl hk9 rfl dX1_init_23 ?_
  revert hv; generalize aUp h10 x0 (.inr (1, fs.set 1 (.ref a12))) = h13; intro hv
  refine aw_aload_n 0 (x := x0) dX1_init_26 rfl rfl ?_
  refine aw_aload_n 0 (x := x0) dX1_init_27 rfl rfl ?_
  obtain ⟨fs, a14, he, hx, hv⟩ := hv
  refine aw_get (v := .ref a14) he rfl in_X1 0 (by decide) q434 (Or.inl rfl) hx dX1_init_28 ?_
  obtain ⟨fs, a15, he, hx, hv⟩ := hv
  refine aw_getN (v := .ref a15) he rfl in_X2 1 (by decide) q390 (Or.inl rfl) hx dX1_init_31 ?_
  obtain ⟨fs, he, hk9, hv⟩ := hv
  refine aw_putF he rfl in_X1 tyX1_ok nmX1 2 (by decide) q436 (Or.inl rfl) rfl rfl rfl rfl rfl hk9 rfl dX1_init_34 ?_
  revert hv; generalize aUp h13 x0 (.inr (1, fs.set 2 (.ref a15))) = h16; intro hv
  refine aw_aload_n 0 (x := x0) dX1_init_37 rfl rfl ?_
  obtain ⟨hc9, hs9, hv⟩ := hv
  refine aw_new (N := 3) (fs := [.null, .null, .null]) (rfl : aCl[5]? = _) in_X5 tyX5_ok q396 q358 q132 (by decide) hc9 hs9 dX1_init_38 (fun a17 g21 => ?_)
  have hv := hv a17 g21 g21
  refine aw_eqv (pc2 := 41) (st2 := [.ref a17, .ref x0]) rfl rfl rfl rfl ?_
  revert hv hc9 hs9; generalize aUp h16 a17 (.inr (5, [.null, .null, .null])) = h18; generalize c8 + 1 = c19; generalize s9 + 3 = s20; intro hc9 hs9 hv
  refine aw_dup dX1_init_41 rfl ?_
  refine aw_aload_n 0 (x := x0) dX1_init_42 rfl rfl ?_
  obtain ⟨fs, a22, he, hx, hv⟩ := hv
  refine aw_get (v := .ref a22) he rfl in_X1 0 (by decide) q434 (Or.inl rfl) hx dX1_init_43 ?_
  obtain ⟨fs, a23, he, hx, hv⟩ := hv
  refine aw_getN (v := .ref a23) he rfl in_X2 0 (by decide) q388 (Or.inl rfl) hx dX1_init_46 ?_
  obtain ⟨d2, mc2, ms2, Q, hM, hd9, hc9, hs9, hv, hx⟩ := hv
  refine aw_callI (rest := [.ref a17, .ref x0]) rfl hM nX5_init rfl q397 q360 q132 q361 dX1_init_49 rfl hd9 (by decide) (Nat.le_of_ble_eq_true rfl) hc9 hs9 ?_ ?_
  rotate_left
  · exact fun E h2 q => aX_out (hx E h2 q) rfl hc9 hs9
  intro v9 h25 hq
  have hv := hv v9 h25 hq
  obtain ⟨rfl, hv⟩ := hv
  refine aw_eqv (pc2 := 52) (st2 := [.ref a17, .ref x0]) rfl rfl rfl rfl ?_
  revert hv hc9 hs9; generalize c19 + mc2 = c26; generalize s20 + ms2 = s27; intro hc9 hs9 hv
  obtain ⟨fs, he, hk9, hv⟩ := hv
  refine aw_putF he rfl in_X1 tyX1_ok nmX1 3 (by decide) q437 (Or.inl rfl) rfl rfl rfl rfl rfl hk9 rfl dX1_init_52 ?_
  revert hv; generalize aUp h25 x0 (.inr (1, fs.set 3 (.ref a17))) = h28; intro hv
  refine aw_aload_n 0 (x := x0) dX1_init_55 rfl rfl ?_
  obtain ⟨hc9, hs9, hv⟩ := hv
  refine aw_new (N := 3) (fs := [.null, .null, .null]) (rfl : aCl[5]? = _) in_X5 tyX5_ok q396 q358 q132 (by decide) hc9 hs9 dX1_init_56 (fun a29 g33 => ?_)
  have hv := hv a29 g33 g33
  refine aw_eqv (pc2 := 59) (st2 := [.ref a29, .ref x0]) rfl rfl rfl rfl ?_
  revert hv hc9 hs9; generalize aUp h28 a29 (.inr (5, [.null, .null, .null])) = h30; generalize c26 + 1 = c31; generalize s27 + 3 = s32; intro hc9 hs9 hv
  refine aw_dup dX1_init_59 rfl ?_
  refine aw_aload_n 0 (x := x0) dX1_init_60 rfl rfl ?_
  obtain ⟨fs, a34, he, hx, hv⟩ := hv
  refine aw_get (v := .ref a34) he rfl in_X1 0 (by decide) q434 (Or.inl rfl) hx dX1_init_61 ?_
  obtain ⟨fs, a35, he, hx, hv⟩ := hv
  refine aw_getN (v := .ref a35) he rfl in_X2 0 (by decide) q388 (Or.inl rfl) hx dX1_init_64 ?_
  obtain ⟨d2, mc2, ms2, Q, hM, hd9, hc9, hs9, hv, hx⟩ := hv
  refine aw_callI (rest := [.ref a29, .ref x0]) rfl hM nX5_init rfl q397 q360 q132 q361 dX1_init_67 rfl hd9 (by decide) (Nat.le_of_ble_eq_true rfl) hc9 hs9 ?_ ?_
  rotate_left
  · exact fun E h2 q => aX_out (hx E h2 q) rfl hc9 hs9
  intro v9 h37 hq
  have hv := hv v9 h37 hq
  obtain ⟨rfl, hv⟩ := hv
  refine aw_eqv (pc2 := 70) (st2 := [.ref a29, .ref x0]) rfl rfl rfl rfl ?_
  revert hv hc9 hs9; generalize c31 + mc2 = c38; generalize s32 + ms2 = s39; intro hc9 hs9 hv
  obtain ⟨fs, he, hk9, hv⟩ := hv
  refine aw_putF he rfl in_X1 tyX1_ok nmX1 4 (by decide) q438 (Or.inl rfl) rfl rfl rfl rfl rfl hk9 rfl dX1_init_70 ?_
  revert hv; generalize aUp h37 x0 (.inr (1, fs.set 4 (.ref a29))) = h40; intro hv
  refine aw_aload_n 0 (x := x0) dX1_init_73 rfl rfl ?_
  obtain ⟨hc9, hs9, hv⟩ := hv
  refine aw_new (N := 3) (fs := [.int 0, .null, .int 0]) (rfl : aCl[9]? = _) in_J2 tyJ2_ok q398 q190 q125 (by decide) hc9 hs9 dX1_init_74 (fun a41 g45 => ?_)
  have hv := hv a41 g45 g45
  refine aw_eqv (pc2 := 77) (st2 := [.ref a41, .ref x0]) rfl rfl rfl rfl ?_
  revert hv hc9 hs9; generalize aUp h40 a41 (.inr (9, [.int 0, .null, .int 0])) = h42; generalize c38 + 1 = c43; generalize s39 + 3 = s44; intro hc9 hs9 hv
  refine aw_dup dX1_init_77 rfl ?_
  obtain ⟨d2, mc2, ms2, Q, hM, hd9, hc9, hs9, hv, hx⟩ := hv
  refine aw_callI (rest := [.ref a41, .ref x0]) rfl hM nJ2_init rfl q399 q192 q125 q193 dX1_init_78 rfl hd9 (by decide) (Nat.le_of_ble_eq_true rfl) hc9 hs9 ?_ ?_
  rotate_left
  · exact fun E h2 q => aX_out (hx E h2 q) rfl hc9 hs9
  intro v9 h47 hq
  have hv := hv v9 h47 hq
  obtain ⟨rfl, hv⟩ := hv
  refine aw_eqv (pc2 := 81) (st2 := [.ref a41, .ref x0]) rfl rfl rfl rfl ?_
  revert hv hc9 hs9; generalize c43 + mc2 = c48; generalize s44 + ms2 = s49; intro hc9 hs9 hv
  obtain ⟨fs, he, hk9, hv⟩ := hv
  refine aw_putF he rfl in_X1 tyX1_ok nmX1 5 (by decide) q439 (Or.inl rfl) rfl rfl rfl rfl rfl hk9 rfl dX1_init_81 ?_
  revert hv; generalize aUp h47 x0 (.inr (1, fs.set 5 (.ref a41))) = h50; intro hv
  refine aw_aload_n 0 (x := x0) dX1_init_84 rfl rfl ?_
  refine aw_iconst (v := 2) dX1_init_85 (by decide) ?_
  obtain ⟨N9, hn9, hN9, hb9, hc9, hs9, hv⟩ := hv
  refine aw_anew 6 rfl q161 q400 hn9 hN9 hb9 hc9 hs9 dX1_init_86 (fun a51 g55 => ?_)
  have hv := hv a51 g55 g55
  refine aw_eqv (pc2 := 89) (st2 := [.ref a51, .ref x0]) rfl rfl rfl rfl ?_
  revert hv hc9 hs9; generalize aUp h50 a51 (aRefs (.object "EdgeLetters$Desk") N9 (fun _ => none)) = h52; generalize c48 + 1 = c53; generalize s49 + N9 = s54; intro hc9 hs9 hv
  obtain ⟨fs, he, hk9, hv⟩ := hv
  refine aw_putF he rfl in_X1 tyX1_ok nmX1 6 (by decide) q440 (Or.inl rfl) rfl rfl rfl rfl rfl hk9 rfl dX1_init_89 ?_
  revert hv; generalize aUp h52 x0 (.inr (1, fs.set 6 (.ref a51))) = h56; intro hv
  refine aw_aload_n 0 (x := x0) dX1_init_92 rfl rfl ?_
  obtain ⟨hc9, hs9, hv⟩ := hv
  refine aw_new (N := 4) (fs := [.null, .int 0, .int 0, .int 0]) (rfl : aCl[10]? = _) in_J8 tyJ8_ok q401 q402 q134 (by decide) hc9 hs9 dX1_init_93 (fun a57 g61 => ?_)
  have hv := hv a57 g61 g61
  refine aw_eqv (pc2 := 96) (st2 := [.ref a57, .ref x0]) rfl rfl rfl rfl ?_
  revert hv hc9 hs9; generalize aUp h56 a57 (.inr (10, [.null, .int 0, .int 0, .int 0])) = h58; generalize c53 + 1 = c59; generalize s54 + 4 = s60; intro hc9 hs9 hv
  refine aw_dup dX1_init_96 rfl ?_
  obtain ⟨d2, mc2, ms2, Q, hM, hd9, hc9, hs9, hv, hx⟩ := hv
  refine aw_callI (rest := [.ref a57, .ref x0]) rfl hM nJ8_init rfl q403 q404 q134 q405 dX1_init_97 rfl hd9 (by decide) (Nat.le_of_ble_eq_true rfl) hc9 hs9 ?_ ?_
  rotate_left
  · exact fun E h2 q => aX_out (hx E h2 q) rfl hc9 hs9
  intro v9 h63 hq
  have hv := hv v9 h63 hq
  obtain ⟨rfl, hv⟩ := hv
  refine aw_eqv (pc2 := 100) (st2 := [.ref a57, .ref x0]) rfl rfl rfl rfl ?_
  revert hv hc9 hs9; generalize c59 + mc2 = c64; generalize s60 + ms2 = s65; intro hc9 hs9 hv
  obtain ⟨fs, he, hk9, hv⟩ := hv
  refine aw_putF he rfl in_X1 tyX1_ok nmX1 7 (by decide) q442 (Or.inl rfl) rfl rfl rfl rfl rfl hk9 rfl dX1_init_100 ?_
  revert hv; generalize aUp h63 x0 (.inr (1, fs.set 7 (.ref a57))) = h66; intro hv
  exact aw_vret rfl dX1_init_103 hv hc9 hs9
def V_X1_recordIf_0 (l : Launch) (G : aG) (d mc ms : Nat) (P : aR → aH → Prop) (x0 : Nat) (x1 : Int32) (h : aH) : Prop :=
  (¬ x1 = 0 → 
    vR h x0 1 5 fun a2 =>
    vIs h a2 9 (
    vC l G mJ2_size (wsN mJ2_size) d mc ms [.ref a2] h 0 0 (xP P) (kI fun y3 h4 c5 s6 => 
    (¬ y3 = 6 → 
      vR h4 x0 1 5 fun a8 =>
      vR h4 x0 1 0 fun a9 =>
      vIs h4 a9 2 (
      vC l G mX2_copy (wsN mX2_copy) d mc ms [.ref a9] h4 c5 s6 (xP P) (kR fun a10 h11 c12 s13 => 
      vIs h11 a8 9 (
      vC l G mJ2_add (wsN mJ2_add) d mc ms [.ref a8, .ref a10] h11 c12 s13 (xP P) (kI fun y14 h15 c16 s17 => 
      P (.inl none) h15))))
      ) ∧ (y3 = 6 → 
      vR h4 x0 1 5 fun a18 =>
      vIs h4 a18 9 (
      vC l G mJ2_remove (wsN mJ2_remove) d mc ms [.ref a18, .int 0] h4 c5 s6 (xP P) (kR fun a19 h20 c21 s22 => 
      vCastO h20 a19 2 (
      vR h20 x0 1 5 fun a23 =>
      vR h20 x0 1 0 fun a24 =>
      vIs h20 a24 2 (
      vC l G mX2_copy (wsN mX2_copy) d mc ms [.ref a24] h20 c21 s22 (xP P) (kR fun a25 h26 c27 s28 => 
      vIs h26 a23 9 (
      vC l G mJ2_add (wsN mJ2_add) d mc ms [.ref a23, .ref a25] h26 c27 s28 (xP P) (kI fun y29 h30 c31 s32 => 
      P (.inl none) h30)))))))
      )))
    ) ∧ (x1 = 0 → 
    P (.inl none) h
    )
set_option maxHeartbeats 4000000 in
theorem A_X1_recordIf {l : Launch} {G : aG} {d mc ms : Nat} {P : aR → aH → Prop} {x0 : Nat} {x1 : Int32} {h : aH} (hl : l.stackTraces = false) (hv : V_X1_recordIf_0 l G d mc ms P x0 x1 h) : aC l G mX1_recordIf (wsN mX1_recordIf) d mc ms [.ref x0, .int x1] h P := by
  refine aC_ofF (M := mX1_recordIf) rfl pX1_recordIf (Nat.le_of_ble_eq_true rfl) hl ?_
  refine aw_eqv (lv2 := [(0, .ref x0), (1, .int x1)]) rfl rfl rfl rfl ?_
  unfold V_X1_recordIf_0 at hv
  refine aw_iload_n 1 dX1_recordIf_0 rfl rfl ?_
  refine aw_if_ne 5 dX1_recordIf_1 (by decide) (fun c1 => ?_) (fun c1 => ?_)
  · have hv := hv.1 c1
    refine aw_aload_n 0 (x := x0) dX1_recordIf_5 rfl rfl ?_
    obtain ⟨fs, a2, he, hx, hv⟩ := hv
    refine aw_get (v := .ref a2) he rfl in_X1 5 (by decide) q439 (Or.inl rfl) hx dX1_recordIf_6 ?_
    obtain ⟨⟨fs, he⟩, hv⟩ := hv
    obtain ⟨d2, mc2, ms2, Q, hM, hd9, hc9, hs9, hv, hx⟩ := hv
    refine aw_callF (rest := []) (x := ⟨"java/util/List", "size", "()I"⟩) hM he rfl (by decide +kernel : aNoMH ⟨"java/util/List", "size", "()I"⟩ 0) (by decide +kernel) q469 q474 q472 q125 q476 dX1_recordIf_9 rfl hd9 (by decide) (Nat.le_of_ble_eq_true rfl) hc9 hs9 ?_ ?_
    rotate_left
    · exact fun E h2 q => aX_out (hx E h2 q) rfl hc9 hs9
    intro v9 h4 hq
    have hv := hv v9 h4 hq
    obtain ⟨y3, rfl, hv⟩ := hv
    refine aw_eqv (pc2 := 14) (st2 := [.int y3]) rfl rfl rfl rfl ?_
    revert hv hc9 hs9; generalize 0 + mc2 = c5; generalize 0 + ms2 = s6; intro hc9 hs9 hv
    refine aw_bipush (v := 6) dX1_recordIf_14 (by decide) ?_
    refine aw_icmp_ne 33 dX1_recordIf_16 (by decide) (fun c7 => ?_) (fun c7 => ?_)
    · have hv := hv.1 c7
      refine aw_aload_n 0 (x := x0) dX1_recordIf_33 rfl rfl ?_
      obtain ⟨fs, a8, he, hx, hv⟩ := hv
      refine aw_get (v := .ref a8) he rfl in_X1 5 (by decide) q439 (Or.inl rfl) hx dX1_recordIf_34 ?_
      refine aw_aload_n 0 (x := x0) dX1_recordIf_37 rfl rfl ?_
      obtain ⟨fs, a9, he, hx, hv⟩ := hv
      refine aw_get (v := .ref a9) he rfl in_X1 0 (by decide) q434 (Or.inl rfl) hx dX1_recordIf_38 ?_
      obtain ⟨⟨fs, he⟩, hv⟩ := hv
      obtain ⟨d2, mc2, ms2, Q, hM, hd9, hc9, hs9, hv, hx⟩ := hv
      refine aw_callV (rest := [.ref a8]) hM he rfl rfl nX2_copy q497 q498 q499 q120 q500 dX1_recordIf_41 rfl hd9 (by decide) (Nat.le_of_ble_eq_true rfl) hc9 hs9 ?_ ?_
      rotate_left
      · exact fun E h2 q => aX_out (hx E h2 q) rfl hc9 hs9
      intro v9 h11 hq
      have hv := hv v9 h11 hq
      obtain ⟨a10, rfl, hv⟩ := hv
      refine aw_eqv (pc2 := 44) (st2 := [.ref a10, .ref a8]) rfl rfl rfl rfl ?_
      revert hv hc9 hs9; generalize c5 + mc2 = c12; generalize s6 + ms2 = s13; intro hc9 hs9 hv
      obtain ⟨⟨fs, he⟩, hv⟩ := hv
      obtain ⟨d2, mc2, ms2, Q, hM, hd9, hc9, hs9, hv, hx⟩ := hv
      refine aw_callF (rest := []) (x := ⟨"java/util/List", "add", "(Ljava/lang/Object;)Z"⟩) hM he rfl (by decide +kernel : aNoMH ⟨"java/util/List", "add", "(Ljava/lang/Object;)Z"⟩ 1) (by decide +kernel) q518 q230 q228 q125 q232 dX1_recordIf_44 rfl hd9 (by decide) (Nat.le_of_ble_eq_true rfl) hc9 hs9 ?_ ?_
      rotate_left
      · exact fun E h2 q => aX_out (hx E h2 q) rfl hc9 hs9
      intro v9 h15 hq
      have hv := hv v9 h15 hq
      obtain ⟨y14, rfl, hv⟩ := hv
      refine aw_eqv (pc2 := 49) (st2 := [.int y14]) rfl rfl rfl rfl ?_
      revert hv hc9 hs9; generalize c12 + mc2 = c16; generalize s13 + ms2 = s17; intro hc9 hs9 hv
      refine aw_pop dX1_recordIf_49 rfl ?_
      exact aw_vret rfl dX1_recordIf_50 hv hc9 hs9
    · have hv := hv.2 c7
      refine aw_aload_n 0 (x := x0) dX1_recordIf_19 rfl rfl ?_
      obtain ⟨fs, a18, he, hx, hv⟩ := hv
      refine aw_get (v := .ref a18) he rfl in_X1 5 (by decide) q439 (Or.inl rfl) hx dX1_recordIf_20 ?_
      refine aw_iconst (v := 0) dX1_recordIf_23 (by decide) ?_
      obtain ⟨⟨fs, he⟩, hv⟩ := hv
      obtain ⟨d2, mc2, ms2, Q, hM, hd9, hc9, hs9, hv, hx⟩ := hv
      refine aw_callF (rest := []) (x := ⟨"java/util/List", "remove", "(I)Ljava/lang/Object;"⟩) hM he rfl (by decide +kernel : aNoMH ⟨"java/util/List", "remove", "(I)Ljava/lang/Object;"⟩ 1) (by decide +kernel) q478 q483 q481 q125 q485 dX1_recordIf_24 rfl hd9 (by decide) (Nat.le_of_ble_eq_true rfl) hc9 hs9 ?_ ?_
      rotate_left
      · exact fun E h2 q => aX_out (hx E h2 q) rfl hc9 hs9
      intro v9 h20 hq
      have hv := hv v9 h20 hq
      obtain ⟨a19, rfl, hv⟩ := hv
      refine aw_eqv (pc2 := 29) (st2 := [.ref a19]) rfl rfl rfl rfl ?_
      revert hv hc9 hs9; generalize c5 + mc2 = c21; generalize s6 + ms2 = s22; intro hc9 hs9 hv
      obtain ⟨⟨fs, he⟩, hv⟩ := hv
      refine aw_castO q161 he rfl dX1_recordIf_29 ?_
      refine aw_astore_n (lv' := [(2, .ref a19), (0, .ref x0), (1, .int x1)]) dX1_recordIf_32 rfl (Nat.le_of_ble_eq_true rfl) rfl ?_
      refine aw_aload_n 1 (x := x0) dX1_recordIf_33 rfl rfl ?_
      obtain ⟨fs, a23, he, hx, hv⟩ := hv
      refine aw_get (v := .ref a23) he rfl in_X1 5 (by decide) q439 (Or.inl rfl) hx dX1_recordIf_34 ?_
      refine aw_aload_n 1 (x := x0) dX1_recordIf_37 rfl rfl ?_
      obtain ⟨fs, a24, he, hx, hv⟩ := hv
      refine aw_get (v := .ref a24) he rfl in_X1 0 (by decide) q434 (Or.inl rfl) hx dX1_recordIf_38 ?_
      obtain ⟨⟨fs, he⟩, hv⟩ := hv
      obtain ⟨d2, mc2, ms2, Q, hM, hd9, hc9, hs9, hv, hx⟩ := hv
      refine aw_callV (rest := [.ref a23]) hM he rfl rfl nX2_copy q497 q498 q499 q120 q500 dX1_recordIf_41 rfl hd9 (by decide) (Nat.le_of_ble_eq_true rfl) hc9 hs9 ?_ ?_
      rotate_left
      · exact fun E h2 q => aX_out (hx E h2 q) rfl hc9 hs9
      intro v9 h26 hq
      have hv := hv v9 h26 hq
      obtain ⟨a25, rfl, hv⟩ := hv
      refine aw_eqv (pc2 := 44) (st2 := [.ref a25, .ref a23]) rfl rfl rfl rfl ?_
      revert hv hc9 hs9; generalize c21 + mc2 = c27; generalize s22 + ms2 = s28; intro hc9 hs9 hv
      obtain ⟨⟨fs, he⟩, hv⟩ := hv
      obtain ⟨d2, mc2, ms2, Q, hM, hd9, hc9, hs9, hv, hx⟩ := hv
      refine aw_callF (rest := []) (x := ⟨"java/util/List", "add", "(Ljava/lang/Object;)Z"⟩) hM he rfl (by decide +kernel : aNoMH ⟨"java/util/List", "add", "(Ljava/lang/Object;)Z"⟩ 1) (by decide +kernel) q518 q230 q228 q125 q232 dX1_recordIf_44 rfl hd9 (by decide) (Nat.le_of_ble_eq_true rfl) hc9 hs9 ?_ ?_
      rotate_left
      · exact fun E h2 q => aX_out (hx E h2 q) rfl hc9 hs9
      intro v9 h30 hq
      have hv := hv v9 h30 hq
      obtain ⟨y29, rfl, hv⟩ := hv
      refine aw_eqv (pc2 := 49) (st2 := [.int y29]) rfl rfl rfl rfl ?_
      revert hv hc9 hs9; generalize c27 + mc2 = c31; generalize s28 + ms2 = s32; intro hc9 hs9 hv
      refine aw_pop dX1_recordIf_49 rfl ?_
      exact aw_vret rfl dX1_recordIf_50 hv hc9 hs9
  · have hv := hv.2 c1
    exact aw_vret rfl dX1_recordIf_4 hv (Nat.zero_le _) (Nat.zero_le _)
def V_X1_turnDiagonals_0 (l : Launch) (G : aG) (d mc ms : Nat) (P : aR → aH → Prop) (x0 : Nat) (h : aH) : Prop :=
  vIs h x0 1 (
  vC l G mX1_recordIf (wsN mX1_recordIf) d mc ms [.ref x0, .int 1] h 0 0 (xP P) (kV fun h2 c3 s4 => 
  vR h2 x0 1 1 fun a5 =>
  vIs h2 a5 3 (
  vC l G mX3_turnDiagonals (wsN mX3_turnDiagonals) d mc ms [.ref a5] h2 c3 s4 (xP P) (kV fun h7 c8 s9 => 
  vR h7 x0 1 1 fun a10 =>
  vI h7 a10 3 7 fun y11 =>
  vB y11 ∧ P (.inl (some (.int y11))) h7))))
set_option maxHeartbeats 4000000 in
theorem A_X1_turnDiagonals {l : Launch} {G : aG} {d mc ms : Nat} {P : aR → aH → Prop} {x0 : Nat} {h : aH} (hl : l.stackTraces = false) (hv : V_X1_turnDiagonals_0 l G d mc ms P x0 h) : aC l G mX1_turnDiagonals (wsN mX1_turnDiagonals) d mc ms [.ref x0] h P := by
  refine aC_ofF (M := mX1_turnDiagonals) rfl pX1_turnDiagonals (Nat.le_of_ble_eq_true rfl) hl ?_
  refine aw_eqv (lv2 := [(0, .ref x0)]) rfl rfl rfl rfl ?_
  unfold V_X1_turnDiagonals_0 at hv
  refine aw_aload_n 0 (x := x0) dX1_turnDiagonals_0 rfl rfl ?_
  refine aw_iconst (v := 1) dX1_turnDiagonals_1 (by decide) ?_
  obtain ⟨⟨fs, he⟩, hv⟩ := hv
  obtain ⟨d2, mc2, ms2, Q, hM, hd9, hc9, hs9, hv, hx⟩ := hv
  refine aw_callV (rest := []) hM he rfl rfl nX1_recordIf q464 q466 qs6 q119 q467 dX1_turnDiagonals_2 rfl hd9 (by decide) (Nat.le_of_ble_eq_true rfl) hc9 hs9 ?_ ?_
  rotate_left
  · exact fun E h2 q => aX_out (hx E h2 q) rfl hc9 hs9
  intro v9 h2 hq
  have hv := hv v9 h2 hq
  obtain ⟨rfl, hv⟩ := hv
  refine aw_eqv (pc2 := 5) (st2 := []) rfl rfl rfl rfl ?_
  revert hv hc9 hs9; generalize 0 + mc2 = c3; generalize 0 + ms2 = s4; intro hc9 hs9 hv
  refine aw_aload_n 0 (x := x0) dX1_turnDiagonals_5 rfl rfl ?_
  obtain ⟨fs, a5, he, hx, hv⟩ := hv
  refine aw_get (v := .ref a5) he rfl in_X1 1 (by decide) q435 (Or.inl rfl) hx dX1_turnDiagonals_6 ?_
  obtain ⟨⟨fs, he⟩, hv⟩ := hv
  obtain ⟨d2, mc2, ms2, Q, hM, hd9, hc9, hs9, hv, hx⟩ := hv
  refine aw_callV (rest := []) hM he rfl rfl nX3_turnDiagonals q519 q520 q521 q121 q522 dX1_turnDiagonals_9 rfl hd9 (by decide) (Nat.le_of_ble_eq_true rfl) hc9 hs9 ?_ ?_
  rotate_left
  · exact fun E h2 q => aX_out (hx E h2 q) rfl hc9 hs9
  intro v9 h7 hq
  have hv := hv v9 h7 hq
  obtain ⟨rfl, hv⟩ := hv
  refine aw_eqv (pc2 := 12) (st2 := []) rfl rfl rfl rfl ?_
  revert hv hc9 hs9; generalize c3 + mc2 = c8; generalize s4 + ms2 = s9; intro hc9 hs9 hv
  refine aw_aload_n 0 (x := x0) dX1_turnDiagonals_12 rfl rfl ?_
  obtain ⟨fs, a10, he, hx, hv⟩ := hv
  refine aw_get (v := .ref a10) he rfl in_X1 1 (by decide) q435 (Or.inl rfl) hx dX1_turnDiagonals_13 ?_
  obtain ⟨fs, y11, he, hx, hv⟩ := hv
  refine aw_getN (v := .int y11) he rfl in_X3 7 (by decide) q339 (Or.inl rfl) hx dX1_turnDiagonals_16 ?_
  obtain ⟨z12, hv⟩ := hv
  exact aw_zret rfl z12.nar dX1_turnDiagonals_19 hv hc9 hs9
def V_X1_isSingle_0 (l : Launch) (G : aG) (d mc ms : Nat) (P : aR → aH → Prop) (x0 : Int32) (h : aH) : Prop :=
  vB (if x0 = 0 then (0 : Int32) else if (x0 &&& (x0 - (1 : Int32))) = 0 then (1 : Int32) else 0) ∧ P (.inl (some (.int (if x0 = 0 then (0 : Int32) else if (x0 &&& (x0 - (1 : Int32))) = 0 then (1 : Int32) else 0)))) h
set_option maxHeartbeats 4000000 in
theorem A_X1_isSingle {l : Launch} {G : aG} {d mc ms : Nat} {P : aR → aH → Prop} {x0 : Int32} {h : aH} (hl : l.stackTraces = false) (hv : V_X1_isSingle_0 l G d mc ms P x0 h) : aC l G mX1_isSingle (wsN mX1_isSingle) d mc ms [.int x0] h P := by
  refine aC_ofF (M := mX1_isSingle) rfl pX1_isSingle (Nat.le_of_ble_eq_true rfl) hl ?_
  refine aw_eqv (lv2 := [(0, .int x0)]) rfl rfl rfl rfl ?_
  unfold V_X1_isSingle_0 at hv
  refine aw_iload_n 0 dX1_isSingle_0 rfl rfl ?_
  have J9 : AW l G mX1_isSingle d mc ms P 17 [(0, .int x0)] [.int (if x0 = 0 then (0 : Int32) else if (x0 &&& (x0 - (1 : Int32))) = 0 then (1 : Int32) else 0)] h 0 0 := by
    obtain ⟨z3, hv⟩ := hv
    exact aw_zret rfl z3.nar dX1_isSingle_17 hv (Nat.zero_le _) (Nat.zero_le _)
  refine aw_if_eq 16 dX1_isSingle_1 (by decide) (fun c1 => ?_) (fun c1 => ?_)
  · have J9 := aw_ifT c1 J9
    refine aw_iconst (v := 0) dX1_isSingle_16 (by decide) ?_
    exact J9
  · have J9 := aw_ifF c1 J9
    refine aw_iload_n 0 dX1_isSingle_4 rfl rfl ?_
    refine aw_iload_n 0 dX1_isSingle_5 rfl rfl ?_
    refine aw_iconst (v := 1) dX1_isSingle_6 (by decide) ?_
    refine aw_isub dX1_isSingle_7 ?_
    refine aw_iand dX1_isSingle_8 ?_
    refine aw_if_ne 16 dX1_isSingle_9 (by decide) (fun c2 => ?_) (fun c2 => ?_)
    · have J9 := aw_ifF c2 J9
      refine aw_iconst (v := 0) dX1_isSingle_16 (by decide) ?_
      exact J9
    · have J9 := aw_ifT c2 J9
      refine aw_iconst (v := 1) dX1_isSingle_12 (by decide) ?_
      refine aw_goto 17 dX1_isSingle_13 (by decide) ?_
      exact J9
def T_X1_settledLine_12 (l : Launch) (G : aG) (d mc ms : Nat) (P : aR → aH → Prop) (x0 : Nat) (x1 : Int32) (x2 : Nat) (x3 : Int32) (h : aH) (c s : Nat) : Prop := c ≤ mc → s ≤ ms → AW l G mX1_settledLine d mc ms P 12 [(0, .ref x0), (1, .int x1), (2, .ref x2), (3, .int x3)] [] h c s
def V_X1_settledLine_12 (l : Launch) (G : aG) (d mc ms : Nat) (P : aR → aH → Prop) (x0 : Nat) (x1 : Int32) (x2 : Nat) (x3 : Int32) (h : aH) (c s : Nat) : Prop :=
  vR h x0 1 1 fun a1 =>
  vI h a1 3 4 fun y2 =>
  (y2 ≤ x3 → 
    P (.inl (some (.ref x2))) h
    ) ∧ (¬ y2 ≤ x3 → 
    vR h x0 1 2 fun a4 =>
    vR h a4 5 1 fun a5 =>
    vR h x0 1 1 fun a6 =>
    vR h a6 3 1 fun a7 =>
    vAR (.array .int) h a7 x1 fun a8 =>
    vA .int h a8 x3 fun y9 =>
    vA .int h a5 y9 fun y10 =>
    vC l G mX1_isSingle (wsN mX1_isSingle) d mc ms [.int y10] h c s (xP P) (kI fun y11 h12 c13 s14 => 
    (¬ y11 = 0 → 
      vC l G mJ6_numberOfTrailingZeros (wsN mJ6_numberOfTrailingZeros) d mc ms [.int y10] h12 c13 s14 (xP P) (kI fun y16 h17 c18 s19 => 
      vSt .int h17 x2 x3 y16 fun h20 =>
      T_X1_settledLine_12 l G d mc ms P x0 x1 x2 (x3 + 1) h20 c18 s19)
      ) ∧ (y11 = 0 → 
      P (.inl (some (.null))) h12
      ))
    )
set_option maxHeartbeats 4000000 in
theorem A_X1_settledLine_12 {l : Launch} {G : aG} {d mc ms : Nat} {P : aR → aH → Prop} {x0 : Nat} {x1 : Int32} {x2 : Nat} {x3 : Int32} {h : aH} {c s : Nat} (hl : l.stackTraces = false) (hv : V_X1_settledLine_12 l G d mc ms P x0 x1 x2 x3 h c s) : T_X1_settledLine_12 l G d mc ms P x0 x1 x2 x3 h c s := by
  intro hc hs
  unfold V_X1_settledLine_12 at hv
  refine aw_iload_n 3 dX1_settledLine_12 rfl rfl ?_
  refine aw_aload_n 0 (x := x0) dX1_settledLine_13 rfl rfl ?_
  obtain ⟨fs, a1, he, hx, hv⟩ := hv
  refine aw_get (v := .ref a1) he rfl in_X1 1 (by decide) q435 (Or.inl rfl) hx dX1_settledLine_14 ?_
  obtain ⟨fs, y2, he, hx, hv⟩ := hv
  refine aw_getN (v := .int y2) he rfl in_X3 4 (by decide) q332 (Or.inl rfl) hx dX1_settledLine_17 ?_
  refine aw_icmp_ge 68 dX1_settledLine_20 (by decide) (fun c3 => ?_) (fun c3 => ?_)
  · have hv := hv.1 c3
    refine aw_aload_n 2 (x := x2) dX1_settledLine_68 rfl rfl ?_
    exact aw_aret rfl (Or.inr ⟨_, rfl⟩) (Or.inr ⟨_, rfl⟩) dX1_settledLine_69 hv hc hs
  · have hv := hv.2 c3
    refine aw_aload_n 0 (x := x0) dX1_settledLine_23 rfl rfl ?_
    obtain ⟨fs, a4, he, hx, hv⟩ := hv
    refine aw_get (v := .ref a4) he rfl in_X1 2 (by decide) q436 (Or.inl rfl) hx dX1_settledLine_24 ?_
    obtain ⟨fs, a5, he, hx, hv⟩ := hv
    refine aw_getN (v := .ref a5) he rfl in_X5 1 (by decide) q378 (Or.inl rfl) hx dX1_settledLine_27 ?_
    refine aw_aload_n 0 (x := x0) dX1_settledLine_30 rfl rfl ?_
    obtain ⟨fs, a6, he, hx, hv⟩ := hv
    refine aw_get (v := .ref a6) he rfl in_X1 1 (by decide) q435 (Or.inl rfl) hx dX1_settledLine_31 ?_
    obtain ⟨fs, a7, he, hx, hv⟩ := hv
    refine aw_getN (v := .ref a7) he rfl in_X3 1 (by decide) q325 (Or.inl rfl) hx dX1_settledLine_34 ?_
    refine aw_iload_n 1 dX1_settledLine_37 rfl rfl ?_
    obtain ⟨n9, f9, a8, he, hin, hx, hv⟩ := hv
    refine aw_aald 7 rfl rfl he hin dX1_settledLine_38 ?_
    rw [hx]
    refine aw_eqv (st2 := [.ref a8, .ref a5]) rfl rfl rfl rfl ?_
    refine aw_iload_n 3 dX1_settledLine_39 rfl rfl ?_
    obtain ⟨n9, f9, he, hin, hv⟩ := hv
    refine aw_iald he hin dX1_settledLine_40 ?_
    revert hv; generalize f9 (x3).toNatClampNeg = y9; intro hv
    obtain ⟨n9, f9, he, hin, hv⟩ := hv
    refine aw_iald he hin dX1_settledLine_41 ?_
    revert hv; generalize f9 (y9).toNatClampNeg = y10; intro hv
    refine aw_istore (lv' := [(4, .int y10), (0, .ref x0), (1, .int x1), (2, .ref x2), (3, .int x3)]) dX1_settledLine_42 (Nat.le_of_ble_eq_true rfl) rfl ?_
    refine aw_iload 0 dX1_settledLine_44 rfl ?_
    obtain ⟨d2, mc2, ms2, Q, hM, hd9, hc9, hs9, hv, hx⟩ := hv
    refine aw_callS (rest := []) hM nX1_isSingle q539 q540 q119 q541 dX1_settledLine_46 rfl hd9 (by decide) (Nat.le_of_ble_eq_true rfl) hc9 hs9 ?_ ?_
    rotate_left
    · exact fun E h2 q => aX_out (hx E h2 q) rfl hc9 hs9
    intro v9 h12 hq
    have hv := hv v9 h12 hq
    obtain ⟨y11, rfl, hv⟩ := hv
    refine aw_eqv (pc2 := 49) (st2 := [.int y11]) rfl rfl rfl rfl ?_
    revert hv hc9 hs9; generalize c + mc2 = c13; generalize s + ms2 = s14; intro hc9 hs9 hv
    refine aw_if_ne 54 dX1_settledLine_49 (by decide) (fun c15 => ?_) (fun c15 => ?_)
    · have hv := hv.1 c15
      refine aw_aload_n 3 (x := x2) dX1_settledLine_54 rfl rfl ?_
      refine aw_iload_n 4 dX1_settledLine_55 rfl rfl ?_
      refine aw_iload 0 dX1_settledLine_56 rfl ?_
      obtain ⟨d2, mc2, ms2, Q, hM, hd9, hc9, hs9, hv, hx⟩ := hv
      refine aw_callS (rest := [.int x3, .ref x2]) hM nJ6_numberOfTrailingZeros q542 q543 q131 q544 dX1_settledLine_58 rfl hd9 (by decide) (Nat.le_of_ble_eq_true rfl) hc9 hs9 ?_ ?_
      rotate_left
      · exact fun E h2 q => aX_out (hx E h2 q) rfl hc9 hs9
      intro v9 h17 hq
      have hv := hv v9 h17 hq
      obtain ⟨y16, rfl, hv⟩ := hv
      refine aw_eqv (pc2 := 61) (st2 := [.int y16, .int x3, .ref x2]) rfl rfl rfl rfl ?_
      revert hv hc9 hs9; generalize c13 + mc2 = c18; generalize s14 + ms2 = s19; intro hc9 hs9 hv
      obtain ⟨n9, f9, he, hin, hv⟩ := hv
      refine aw_iast he hin rfl dX1_settledLine_61 ?_
      revert hv; generalize aUp h17 x2 (aInts .int n9 (upd f9 (x3).toNatClampNeg y16)) = h20; intro hv
      refine aw_iinc 4 (v := x3 + 1) (lv' := [(3, .int (x3 + 1)), (4, .int y10), (0, .ref x0), (1, .int x1), (2, .ref x2)]) dX1_settledLine_62 rfl rfl (Nat.le_of_ble_eq_true rfl) rfl ?_
      refine aw_goto 12 dX1_settledLine_65 (by decide) ?_
      refine aw_sub [2, 3, 4, 0] rfl ?_
      exact hv hc9 hs9
    · have hv := hv.2 c15
      refine aw_null dX1_settledLine_52 ?_
      exact aw_aret rfl (Or.inr ⟨_, rfl⟩) (Or.inl rfl) dX1_settledLine_53 hv hc9 hs9
def V_X1_settledLine_0 (l : Launch) (G : aG) (d mc ms : Nat) (P : aR → aH → Prop) (x0 : Nat) (x1 : Int32) (h : aH) : Prop :=
  vR h x0 1 1 fun a21 =>
  vI h a21 3 4 fun y22 =>
  vNewA .int h y22 mc ms 0 0 fun a23 h24 c25 s26 => h a23 = none →
  T_X1_settledLine_12 l G d mc ms P x0 x1 a23 0 h24 c25 s26
set_option maxHeartbeats 4000000 in
theorem A_X1_settledLine {l : Launch} {G : aG} {d mc ms : Nat} {P : aR → aH → Prop} {x0 : Nat} {x1 : Int32} {h : aH} (hl : l.stackTraces = false) (hv : V_X1_settledLine_0 l G d mc ms P x0 x1 h) : aC l G mX1_settledLine (wsN mX1_settledLine) d mc ms [.ref x0, .int x1] h P := by
  refine aC_ofF (M := mX1_settledLine) rfl pX1_settledLine (Nat.le_of_ble_eq_true rfl) hl ?_
  refine aw_eqv (lv2 := [(0, .ref x0), (1, .int x1)]) rfl rfl rfl rfl ?_
  unfold V_X1_settledLine_0 at hv
  refine aw_aload_n 0 (x := x0) dX1_settledLine_0 rfl rfl ?_
  obtain ⟨fs, a21, he, hx, hv⟩ := hv
  refine aw_get (v := .ref a21) he rfl in_X1 1 (by decide) q435 (Or.inl rfl) hx dX1_settledLine_1 ?_
  obtain ⟨fs, y22, he, hx, hv⟩ := hv
  refine aw_getN (v := .int y22) he rfl in_X3 4 (by decide) q332 (Or.inl rfl) hx dX1_settledLine_4 ?_
  obtain ⟨N9, hn9, hN9, hb9, hc9, hs9, hv⟩ := hv
  refine aw_newa (atype := .int) (ty := .int) (a0 := (N9, .inl fun _ => 0)) rfl 0 rfl q215 (fun _ => rfl) hn9 hN9 (by show _ * 4 ≤ _; omega) (fun _ _ h9 => h9) hc9 hs9 dX1_settledLine_7 (fun a23 g27 => ?_)
  have hv := hv a23 g27 g27
  refine aw_eqv (pc2 := 9) (st2 := [.ref a23]) rfl rfl rfl rfl ?_
  revert hv hc9 hs9; generalize aUp h a23 (.inl (.int, (N9, .inl fun _ => 0))) = h24; generalize 0 + 1 = c25; generalize 0 + N9 = s26; intro hc9 hs9 hv
  refine aw_astore_n (lv' := [(2, .ref a23), (0, .ref x0), (1, .int x1)]) dX1_settledLine_9 rfl (Nat.le_of_ble_eq_true rfl) rfl ?_
  refine aw_iconst (v := 0) dX1_settledLine_10 (by decide) ?_
  refine aw_istore_n (lv' := [(3, .int 0), (2, .ref a23), (0, .ref x0), (1, .int x1)]) dX1_settledLine_11 rfl (Nat.le_of_ble_eq_true rfl) rfl ?_
  refine aw_sub [2, 3, 1, 0] rfl ?_
  exact hv hc9 hs9
def T_X1_isComplete_15 (l : Launch) (G : aG) (d mc ms : Nat) (P : aR → aH → Prop) (x0 : Nat) (x2 : Int32) (x3 : Int32) (x4 : Nat) (x5 : Int32) (x6 : Int32) (h : aH) (c s : Nat) : Prop := c ≤ mc → s ≤ ms → AW l G mX1_isComplete d mc ms P 15 [(0, .ref x0), (2, .int x2), (3, .int x3), (4, .ref x4), (5, .int x5), (6, .int x6)] [] h c s
def V_X1_isComplete_15 (l : Launch) (G : aG) (d mc ms : Nat) (P : aR → aH → Prop) (x0 : Nat) (x2 : Int32) (x3 : Int32) (x4 : Nat) (x5 : Int32) (x6 : Int32) (h : aH) (c s : Nat) : Prop :=
  (x5 ≤ x6 → 
    vR h x0 1 1 fun a2 =>
    vI h a2 3 5 fun y3 =>
    (¬ x3 = y3 → 
      P (.inl (some (.int 0))) h
      ) ∧ (x3 = y3 → 
      vR h x0 1 1 fun a5 =>
      vI h a5 3 5 fun y6 =>
      vR h x0 1 2 fun a7 =>
      vIs h a7 5 (
      vC l G mX5_everything (wsN mX5_everything) d mc ms [.ref a7] h c s (xP P) (kI fun y8 h9 c10 s11 => 
      vB (if (x2 ||| ((1 : Int32) <<< (y6 &&& 31))) = y8 then (1 : Int32) else 0) ∧ P (.inl (some (.int (if (x2 ||| ((1 : Int32) <<< (y6 &&& 31))) = y8 then (1 : Int32) else 0)))) h9))
      )
    ) ∧ (¬ x5 ≤ x6 → 
    vA .int h x4 x6 fun y14 =>
    vR h x0 1 1 fun a15 =>
    vI h a15 3 5 fun y16 =>
    ∀ v18 : Int32, v18 = (x3 + (if y16 ≤ y14 then (0 : Int32) else 1)) →
    T_X1_isComplete_15 l G d mc ms P x0 (x2 ||| ((1 : Int32) <<< (y14 &&& 31))) v18 x4 x5 (x6 + 1) h c s
    )
set_option maxHeartbeats 4000000 in
theorem A_X1_isComplete_15 {l : Launch} {G : aG} {d mc ms : Nat} {P : aR → aH → Prop} {x0 : Nat} {x2 : Int32} {x3 : Int32} {x4 : Nat} {x5 : Int32} {x6 : Int32} {h : aH} {c s : Nat} (hl : l.stackTraces = false) (hv : V_X1_isComplete_15 l G d mc ms P x0 x2 x3 x4 x5 x6 h c s) : T_X1_isComplete_15 l G d mc ms P x0 x2 x3 x4 x5 x6 h c s := by
  intro hc hs
  unfold V_X1_isComplete_15 at hv
  refine aw_iload 5 dX1_isComplete_15 rfl ?_
  refine aw_iload 4 dX1_isComplete_17 rfl ?_
  refine aw_icmp_ge 62 dX1_isComplete_19 (by decide) (fun c1 => ?_) (fun c1 => ?_)
  · have hv := hv.1 c1
    refine aw_iload_n 2 dX1_isComplete_62 rfl rfl ?_
    refine aw_aload_n 0 (x := x0) dX1_isComplete_63 rfl rfl ?_
    obtain ⟨fs, a2, he, hx, hv⟩ := hv
    refine aw_get (v := .ref a2) he rfl in_X1 1 (by decide) q435 (Or.inl rfl) hx dX1_isComplete_64 ?_
    obtain ⟨fs, y3, he, hx, hv⟩ := hv
    refine aw_getN (v := .int y3) he rfl in_X3 5 (by decide) q335 (Or.inl rfl) hx dX1_isComplete_67 ?_
    refine aw_icmp_ne 98 dX1_isComplete_70 (by decide) (fun c4 => ?_) (fun c4 => ?_)
    · have hv := hv.1 c4
      refine aw_iconst (v := 0) dX1_isComplete_98 (by decide) ?_
      exact aw_zret rfl rfl dX1_isComplete_99 hv hc hs
    · have hv := hv.2 c4
      refine aw_iload_n 1 dX1_isComplete_73 rfl rfl ?_
      refine aw_iconst (v := 1) dX1_isComplete_74 (by decide) ?_
      refine aw_aload_n 0 (x := x0) dX1_isComplete_75 rfl rfl ?_
      obtain ⟨fs, a5, he, hx, hv⟩ := hv
      refine aw_get (v := .ref a5) he rfl in_X1 1 (by decide) q435 (Or.inl rfl) hx dX1_isComplete_76 ?_
      obtain ⟨fs, y6, he, hx, hv⟩ := hv
      refine aw_getN (v := .int y6) he rfl in_X3 5 (by decide) q335 (Or.inl rfl) hx dX1_isComplete_79 ?_
      refine aw_ishl dX1_isComplete_82 ?_
      refine aw_ior dX1_isComplete_83 ?_
      refine aw_aload_n 0 (x := x0) dX1_isComplete_84 rfl rfl ?_
      obtain ⟨fs, a7, he, hx, hv⟩ := hv
      refine aw_get (v := .ref a7) he rfl in_X1 2 (by decide) q436 (Or.inl rfl) hx dX1_isComplete_85 ?_
      obtain ⟨⟨fs, he⟩, hv⟩ := hv
      obtain ⟨d2, mc2, ms2, Q, hM, hd9, hc9, hs9, hv, hx⟩ := hv
      refine aw_callV (rest := [.int (x2 ||| ((1 : Int32) <<< (y6 &&& 31)))]) hM he rfl rfl nX5_everything q550 q373 q374 q132 q375 dX1_isComplete_88 rfl hd9 (by decide) (Nat.le_of_ble_eq_true rfl) hc9 hs9 ?_ ?_
      rotate_left
      · exact fun E h2 q => aX_out (hx E h2 q) rfl hc9 hs9
      intro v9 h9 hq
      have hv := hv v9 h9 hq
      obtain ⟨y8, rfl, hv⟩ := hv
      refine aw_eqv (pc2 := 91) (st2 := [.int y8, .int (x2 ||| ((1 : Int32) <<< (y6 &&& 31)))]) rfl rfl rfl rfl ?_
      revert hv hc9 hs9; generalize c + mc2 = c10; generalize s + ms2 = s11; intro hc9 hs9 hv
      have J9 : AW l G mX1_isComplete d mc ms P 99 [(0, .ref x0), (2, .int x2), (3, .int x3), (4, .ref x4), (5, .int x5), (6, .int x6)] [.int (if (x2 ||| ((1 : Int32) <<< (y6 &&& 31))) = y8 then (1 : Int32) else 0)] h9 c10 s11 := by
        obtain ⟨z13, hv⟩ := hv
        exact aw_zret rfl z13.nar dX1_isComplete_99 hv hc9 hs9
      refine aw_icmp_ne 98 dX1_isComplete_91 (by decide) (fun c12 => ?_) (fun c12 => ?_)
      · have J9 := aw_ifF c12 J9
        refine aw_iconst (v := 0) dX1_isComplete_98 (by decide) ?_
        exact J9
      · have J9 := aw_ifT c12 J9
        refine aw_iconst (v := 1) dX1_isComplete_94 (by decide) ?_
        refine aw_goto 99 dX1_isComplete_95 (by decide) ?_
        exact J9
  · have hv := hv.2 c1
    refine aw_aload 3 (x := x4) dX1_isComplete_22 rfl ?_
    refine aw_iload 5 dX1_isComplete_24 rfl ?_
    obtain ⟨n9, f9, he, hin, hv⟩ := hv
    refine aw_iald he hin dX1_isComplete_26 ?_
    revert hv; generalize f9 (x6).toNatClampNeg = y14; intro hv
    refine aw_istore (lv' := [(7, .int y14), (0, .ref x0), (2, .int x2), (3, .int x3), (4, .ref x4), (5, .int x5), (6, .int x6)]) dX1_isComplete_27 (Nat.le_of_ble_eq_true rfl) rfl ?_
    refine aw_iload_n 2 dX1_isComplete_29 rfl rfl ?_
    refine aw_iconst (v := 1) dX1_isComplete_30 (by decide) ?_
    refine aw_iload 0 dX1_isComplete_31 rfl ?_
    refine aw_ishl dX1_isComplete_33 ?_
    refine aw_ior dX1_isComplete_34 ?_
    refine aw_istore_n (lv' := [(2, .int (x2 ||| ((1 : Int32) <<< (y14 &&& 31)))), (7, .int y14), (0, .ref x0), (3, .int x3), (4, .ref x4), (5, .int x5), (6, .int x6)]) dX1_isComplete_35 rfl (Nat.le_of_ble_eq_true rfl) rfl ?_
    refine aw_iload_n 3 dX1_isComplete_36 rfl rfl ?_
    refine aw_iload 1 dX1_isComplete_37 rfl ?_
    refine aw_aload_n 2 (x := x0) dX1_isComplete_39 rfl rfl ?_
    obtain ⟨fs, a15, he, hx, hv⟩ := hv
    refine aw_get (v := .ref a15) he rfl in_X1 1 (by decide) q435 (Or.inl rfl) hx dX1_isComplete_40 ?_
    obtain ⟨fs, y16, he, hx, hv⟩ := hv
    refine aw_getN (v := .int y16) he rfl in_X3 5 (by decide) q335 (Or.inl rfl) hx dX1_isComplete_43 ?_
    have J9 : AW l G mX1_isComplete d mc ms P 54 [(2, .int (x2 ||| ((1 : Int32) <<< (y14 &&& 31)))), (7, .int y14), (0, .ref x0), (3, .int x3), (4, .ref x4), (5, .int x5), (6, .int x6)] [.int (if y16 ≤ y14 then (0 : Int32) else 1), .int x3] h c s := by
      refine aw_iadd dX1_isComplete_54 ?_
      refine aw_topi (fun v18 ev18 => ?_)
      have hv := hv v18 ev18
      refine aw_istore_n (lv' := [(3, .int v18), (2, .int (x2 ||| ((1 : Int32) <<< (y14 &&& 31)))), (7, .int y14), (0, .ref x0), (4, .ref x4), (5, .int x5), (6, .int x6)]) dX1_isComplete_55 rfl (Nat.le_of_ble_eq_true rfl) rfl ?_
      refine aw_iinc 6 (v := x6 + 1) (lv' := [(6, .int (x6 + 1)), (3, .int v18), (2, .int (x2 ||| ((1 : Int32) <<< (y14 &&& 31)))), (7, .int y14), (0, .ref x0), (4, .ref x4), (5, .int x5)]) dX1_isComplete_56 rfl rfl (Nat.le_of_ble_eq_true rfl) rfl ?_
      refine aw_goto 15 dX1_isComplete_59 (by decide) ?_
      refine aw_sub [4, 2, 1, 5, 6, 0] rfl ?_
      exact hv hc hs
    refine aw_icmp_ge 53 dX1_isComplete_46 (by decide) (fun c17 => ?_) (fun c17 => ?_)
    · have J9 := aw_ifT c17 J9
      refine aw_iconst (v := 0) dX1_isComplete_53 (by decide) ?_
      exact J9
    · have J9 := aw_ifF c17 J9
      refine aw_iconst (v := 1) dX1_isComplete_49 (by decide) ?_
      refine aw_goto 54 dX1_isComplete_50 (by decide) ?_
      exact J9
def V_X1_isComplete_0 (l : Launch) (G : aG) (d mc ms : Nat) (P : aR → aH → Prop) (x0 : Nat) (x1 : Nat) (h : aH) : Prop :=
  vLen h x1 fun y19 =>
  T_X1_isComplete_15 l G d mc ms P x0 0 0 x1 y19 0 h 0 0
set_option maxHeartbeats 4000000 in
theorem A_X1_isComplete {l : Launch} {G : aG} {d mc ms : Nat} {P : aR → aH → Prop} {x0 : Nat} {x1 : Nat} {h : aH} (hl : l.stackTraces = false) (hv : V_X1_isComplete_0 l G d mc ms P x0 x1 h) : aC l G mX1_isComplete (wsN mX1_isComplete) d mc ms [.ref x0, .ref x1] h P := by
  refine aC_ofF (M := mX1_isComplete) rfl pX1_isComplete (Nat.le_of_ble_eq_true rfl) hl ?_
  refine aw_eqv (lv2 := [(0, .ref x0), (1, .ref x1)]) rfl rfl rfl rfl ?_
  unfold V_X1_isComplete_0 at hv
  refine aw_iconst (v := 0) dX1_isComplete_0 (by decide) ?_
  refine aw_istore_n (lv' := [(2, .int 0), (0, .ref x0), (1, .ref x1)]) dX1_isComplete_1 rfl (Nat.le_of_ble_eq_true rfl) rfl ?_
  refine aw_iconst (v := 0) dX1_isComplete_2 (by decide) ?_
  refine aw_istore_n (lv' := [(3, .int 0), (2, .int 0), (0, .ref x0), (1, .ref x1)]) dX1_isComplete_3 rfl (Nat.le_of_ble_eq_true rfl) rfl ?_
  refine aw_aload_n 3 (x := x1) dX1_isComplete_4 rfl rfl ?_
  refine aw_astore (lv' := [(4, .ref x1), (3, .int 0), (2, .int 0), (0, .ref x0), (1, .ref x1)]) dX1_isComplete_5 (Nat.le_of_ble_eq_true rfl) rfl ?_
  refine aw_aload 0 (x := x1) dX1_isComplete_7 rfl ?_
  obtain ⟨x9, j9, he, hj, hv⟩ := hv
  refine aw_alen j9 hj he dX1_isComplete_9 ?_
  revert hv; generalize Int32.ofNat x9.2.1 = y19; intro hv
  refine aw_istore (lv' := [(5, .int y19), (4, .ref x1), (3, .int 0), (2, .int 0), (0, .ref x0), (1, .ref x1)]) dX1_isComplete_10 (Nat.le_of_ble_eq_true rfl) rfl ?_
  refine aw_iconst (v := 0) dX1_isComplete_12 (by decide) ?_
  refine aw_istore (lv' := [(6, .int 0), (5, .int y19), (4, .ref x1), (3, .int 0), (2, .int 0), (0, .ref x0), (1, .ref x1)]) dX1_isComplete_13 (Nat.le_of_ble_eq_true rfl) rfl ?_
  refine aw_sub [5, 4, 3, 2, 1, 0] rfl ?_
  exact hv (Nat.zero_le _) (Nat.zero_le _)
def T_X1_seen_6 (l : Launch) (G : aG) (d mc ms : Nat) (P : aR → aH → Prop) (x0 : Int32) (x2 : Int32) (x3 : Nat) (x4 : Int32) (x5 : Int32) (h : aH) (c s : Nat) : Prop := c ≤ mc → s ≤ ms → AW l G mX1_seen d mc ms P 6 [(0, .int x0), (2, .int x2), (3, .ref x3), (4, .int x4), (5, .int x5)] [] h c s
def T_X1_seen_30 (l : Launch) (G : aG) (d mc ms : Nat) (P : aR → aH → Prop) (x0 : Int32) (x2 : Int32) (x3 : Nat) (x4 : Int32) (x5 : Int32) (xs0 : Int32) (xs1 : Nat) (h : aH) (c s : Nat) : Prop := c ≤ mc → s ≤ ms → AW l G mX1_seen d mc ms P 30 [(0, .int x0), (2, .int x2), (3, .ref x3), (4, .int x4), (5, .int x5)] [.int xs0, .ref xs1] h c s
def V_X1_seen_6 (l : Launch) (G : aG) (d mc ms : Nat) (P : aR → aH → Prop) (x0 : Int32) (x2 : Int32) (x3 : Nat) (x4 : Int32) (x5 : Int32) (h : aH) (c s : Nat) : Prop :=
  vLen h x3 fun y1 =>
  (y1 ≤ x5 → 
    P (.inl (some (.int ((-1))))) h
    ) ∧ (¬ y1 ≤ x5 → 
    (x2 = 0 → 
      T_X1_seen_30 l G d mc ms P x0 x2 x3 x4 x5 x5 x3 h c s
      ) ∧ (¬ x2 = 0 → 
      vLen h x3 fun y4 =>
      T_X1_seen_30 l G d mc ms P x0 x2 x3 x4 x5 ((y4 - (1 : Int32)) - x5) x3 h c s
      )
    )
set_option maxHeartbeats 4000000 in
theorem A_X1_seen_6 {l : Launch} {G : aG} {d mc ms : Nat} {P : aR → aH → Prop} {x0 : Int32} {x2 : Int32} {x3 : Nat} {x4 : Int32} {x5 : Int32} {h : aH} {c s : Nat} (hl : l.stackTraces = false) (hv : V_X1_seen_6 l G d mc ms P x0 x2 x3 x4 x5 h c s) : T_X1_seen_6 l G d mc ms P x0 x2 x3 x4 x5 h c s := by
  intro hc hs
  unfold V_X1_seen_6 at hv
  refine aw_iload 4 dX1_seen_6 rfl ?_
  refine aw_aload_n 2 (x := x3) dX1_seen_8 rfl rfl ?_
  obtain ⟨x9, j9, he, hj, hv⟩ := hv
  refine aw_alen j9 hj he dX1_seen_9 ?_
  revert hv; generalize Int32.ofNat x9.2.1 = y1; intro hv
  refine aw_icmp_ge 56 dX1_seen_10 (by decide) (fun c2 => ?_) (fun c2 => ?_)
  · have hv := hv.1 c2
    refine aw_iconst (v := (-1)) dX1_seen_56 (by decide) ?_
    exact aw_iret rfl dX1_seen_57 hv hc hs
  · have hv := hv.2 c2
    refine aw_aload_n 2 (x := x3) dX1_seen_13 rfl rfl ?_
    refine aw_iload_n 1 dX1_seen_14 rfl rfl ?_
    refine aw_if_eq 28 dX1_seen_15 (by decide) (fun c3 => ?_) (fun c3 => ?_)
    · have hv := hv.1 c3
      refine aw_iload 4 dX1_seen_28 rfl ?_
      exact hv hc hs
    · have hv := hv.2 c3
      refine aw_aload_n 2 (x := x3) dX1_seen_18 rfl rfl ?_
      obtain ⟨x9, j9, he, hj, hv⟩ := hv
      refine aw_alen j9 hj he dX1_seen_19 ?_
      revert hv; generalize Int32.ofNat x9.2.1 = y4; intro hv
      refine aw_iconst (v := 1) dX1_seen_20 (by decide) ?_
      refine aw_isub dX1_seen_21 ?_
      refine aw_iload 4 dX1_seen_22 rfl ?_
      refine aw_isub dX1_seen_24 ?_
      refine aw_goto 30 dX1_seen_25 (by decide) ?_
      exact hv hc hs
def V_X1_seen_30 (l : Launch) (G : aG) (d mc ms : Nat) (P : aR → aH → Prop) (x0 : Int32) (x2 : Int32) (x3 : Nat) (x4 : Int32) (x5 : Int32) (xs0 : Int32) (xs1 : Nat) (h : aH) (c s : Nat) : Prop :=
  vA .int h xs1 xs0 fun y5 =>
  (x0 ≤ y5 → 
    T_X1_seen_6 l G d mc ms P x0 x2 x3 x4 (x5 + 1) h c s
    ) ∧ (¬ x0 ≤ y5 → 
    (¬ x4 = 0 → 
      T_X1_seen_6 l G d mc ms P x0 x2 x3 (x4 + (-1)) (x5 + 1) h c s
      ) ∧ (x4 = 0 → 
      P (.inl (some (.int y5))) h
      )
    )
set_option maxHeartbeats 4000000 in
theorem A_X1_seen_30 {l : Launch} {G : aG} {d mc ms : Nat} {P : aR → aH → Prop} {x0 : Int32} {x2 : Int32} {x3 : Nat} {x4 : Int32} {x5 : Int32} {xs0 : Int32} {xs1 : Nat} {h : aH} {c s : Nat} (hl : l.stackTraces = false) (hv : V_X1_seen_30 l G d mc ms P x0 x2 x3 x4 x5 xs0 xs1 h c s) : T_X1_seen_30 l G d mc ms P x0 x2 x3 x4 x5 xs0 xs1 h c s := by
  intro hc hs
  unfold V_X1_seen_30 at hv
  obtain ⟨n9, f9, he, hin, hv⟩ := hv
  refine aw_iald he hin dX1_seen_30 ?_
  revert hv; generalize f9 (xs0).toNatClampNeg = y5; intro hv
  refine aw_istore (lv' := [(6, .int y5), (0, .int x0), (2, .int x2), (3, .ref x3), (4, .int x4), (5, .int x5)]) dX1_seen_31 (Nat.le_of_ble_eq_true rfl) rfl ?_
  refine aw_iload 0 dX1_seen_33 rfl ?_
  refine aw_iload_n 1 dX1_seen_35 rfl rfl ?_
  refine aw_icmp_ge 50 dX1_seen_36 (by decide) (fun c6 => ?_) (fun c6 => ?_)
  · have hv := hv.1 c6
    refine aw_iinc 5 (v := x5 + 1) (lv' := [(5, .int (x5 + 1)), (6, .int y5), (0, .int x0), (2, .int x2), (3, .ref x3), (4, .int x4)]) dX1_seen_50 rfl rfl (Nat.le_of_ble_eq_true rfl) rfl ?_
    refine aw_goto 6 dX1_seen_53 (by decide) ?_
    refine aw_sub [2, 3, 4, 5, 0] rfl ?_
    exact hv hc hs
  · have hv := hv.2 c6
    refine aw_iload 4 dX1_seen_39 rfl ?_
    refine aw_if_ne 47 dX1_seen_41 (by decide) (fun c7 => ?_) (fun c7 => ?_)
    · have hv := hv.1 c7
      refine aw_iinc 4 (v := x4 + (-1)) (lv' := [(4, .int (x4 + (-1))), (6, .int y5), (0, .int x0), (2, .int x2), (3, .ref x3), (5, .int x5)]) dX1_seen_47 rfl rfl (Nat.le_of_ble_eq_true rfl) rfl ?_
      refine aw_iinc 5 (v := x5 + 1) (lv' := [(5, .int (x5 + 1)), (4, .int (x4 + (-1))), (6, .int y5), (0, .int x0), (2, .int x2), (3, .ref x3)]) dX1_seen_50 rfl rfl (Nat.le_of_ble_eq_true rfl) rfl ?_
      refine aw_goto 6 dX1_seen_53 (by decide) ?_
      refine aw_sub [3, 4, 5, 1, 0] rfl ?_
      exact hv hc hs
    · have hv := hv.2 c7
      refine aw_iload 0 dX1_seen_44 rfl ?_
      exact aw_iret rfl dX1_seen_46 hv hc hs
def V_X1_seen_0 (l : Launch) (G : aG) (d mc ms : Nat) (P : aR → aH → Prop) (x0 : Int32) (x1 : Int32) (x2 : Int32) (x3 : Nat) (h : aH) : Prop :=
  T_X1_seen_6 l G d mc ms P x0 x2 x3 x1 0 h 0 0
set_option maxHeartbeats 4000000 in
theorem A_X1_seen {l : Launch} {G : aG} {d mc ms : Nat} {P : aR → aH → Prop} {x0 : Int32} {x1 : Int32} {x2 : Int32} {x3 : Nat} {h : aH} (hl : l.stackTraces = false) (hv : V_X1_seen_0 l G d mc ms P x0 x1 x2 x3 h) : aC l G mX1_seen (wsN mX1_seen) d mc ms [.int x0, .int x1, .int x2, .ref x3] h P := by
  refine aC_ofF (M := mX1_seen) rfl pX1_seen (Nat.le_of_ble_eq_true rfl) hl ?_
  refine aw_eqv (lv2 := [(0, .int x0), (1, .int x1), (2, .int x2), (3, .ref x3)]) rfl rfl rfl rfl ?_
  unfold V_X1_seen_0 at hv
  refine aw_iload_n 1 dX1_seen_0 rfl rfl ?_
  refine aw_istore (lv' := [(4, .int x1), (0, .int x0), (1, .int x1), (2, .int x2), (3, .ref x3)]) dX1_seen_1 (Nat.le_of_ble_eq_true rfl) rfl ?_
  refine aw_iconst (v := 0) dX1_seen_3 (by decide) ?_
  refine aw_istore (lv' := [(5, .int 0), (4, .int x1), (0, .int x0), (1, .int x1), (2, .int x2), (3, .ref x3)]) dX1_seen_4 (Nat.le_of_ble_eq_true rfl) rfl ?_
  refine aw_sub [2, 4, 5, 1, 0] rfl ?_
  exact hv (Nat.zero_le _) (Nat.zero_le _)
def T_X1_tellFirsts_7 (l : Launch) (G : aG) (d mc ms : Nat) (P : aR → aH → Prop) (x0 : Nat) (x1 : Int32) (h : aH) (c s : Nat) : Prop := c ≤ mc → s ≤ ms → AW l G mX1_tellFirsts d mc ms P 7 [(0, .ref x0), (1, .int x1)] [] h c s
def V_X1_tellFirsts_7 (l : Launch) (G : aG) (d mc ms : Nat) (P : aR → aH → Prop) (x0 : Nat) (x1 : Int32) (h : aH) (c s : Nat) : Prop :=
  vR h x0 1 1 fun a1 =>
  vIs h a1 3 (
  vC l G mX3_edgeCount (wsN mX3_edgeCount) d mc ms [.ref a1] h c s (xP P) (kI fun y2 h3 c4 s5 => 
  (y2 ≤ x1 → 
    vR h3 x0 1 1 fun a7 =>
    vIs h3 a7 3 (
    vC l G mX3_told (wsN mX3_told) d mc ms [.ref a7] h3 c4 s5 (xP P) (kI fun y8 h9 c10 s11 => 
    P (.inl (some (.int y8))) h9))
    ) ∧ (¬ y2 ≤ x1 → 
    vR h3 x0 1 1 fun a12 =>
    vIs h3 a12 3 (
    vC l G mX3_lineAt (wsN mX3_lineAt) d mc ms [.ref a12, .int x1] h3 c4 s5 (xP P) (kI fun y13 h14 c15 s16 => 
    vIs h14 x0 1 (
    vC l G mX1_settledLine (wsN mX1_settledLine) d mc ms [.ref x0, .int y13] h14 c15 s16 (xP P) (kO fun o17 h18 c19 s20 => 
    (o17 = none → 
      T_X1_tellFirsts_7 l G d mc ms P x0 (x1 + 1) h18 c19 s20
      ) ∧ (∀ q21, o17 = some q21 → 
      vIs h18 x0 1 (
      vC l G mX1_isComplete (wsN mX1_isComplete) d mc ms [.ref x0, .ref q21] h18 c19 s20 (xP P) (kI fun y23 h24 c25 s26 => 
      (y23 = 0 → 
        T_X1_tellFirsts_7 l G d mc ms P x0 (x1 + 1) h24 c25 s26
        ) ∧ (¬ y23 = 0 → 
        vR h24 x0 1 1 fun a28 =>
        vR h24 x0 1 1 fun a29 =>
        vI h24 a29 3 5 fun y30 =>
        vR h24 x0 1 1 fun a31 =>
        vIs h24 a31 3 (
        vC l G mX3_looksBack (wsN mX3_looksBack) d mc ms [.ref a31, .int x1] h24 c25 s26 (xP P) (kI fun y32 h33 c34 s35 => 
        vC l G mX1_seen (wsN mX1_seen) d mc ms [.int y30, .int 0, .int y32, .ref q21] h33 c34 s35 (xP P) (kI fun y36 h37 c38 s39 => 
        vIs h37 a28 3 (
        vC l G mX3_tell (wsN mX3_tell) d mc ms [.ref a28, .int x1, .int y36, .int 0] h37 c38 s39 (xP P) (kI fun y40 h41 c42 s43 => 
        T_X1_tellFirsts_7 l G d mc ms P x0 (x1 + 1) h41 c42 s43)))))
        )))
      )))))
    )))
set_option maxHeartbeats 4000000 in
theorem A_X1_tellFirsts_7 {l : Launch} {G : aG} {d mc ms : Nat} {P : aR → aH → Prop} {x0 : Nat} {x1 : Int32} {h : aH} {c s : Nat} (hl : l.stackTraces = false) (hv : V_X1_tellFirsts_7 l G d mc ms P x0 x1 h c s) : T_X1_tellFirsts_7 l G d mc ms P x0 x1 h c s := by
  intro hc hs
  unfold V_X1_tellFirsts_7 at hv
  refine aw_iload_n 1 dX1_tellFirsts_7 rfl rfl ?_
  refine aw_aload_n 0 (x := x0) dX1_tellFirsts_8 rfl rfl ?_
  obtain ⟨fs, a1, he, hx, hv⟩ := hv
  refine aw_get (v := .ref a1) he rfl in_X1 1 (by decide) q435 (Or.inl rfl) hx dX1_tellFirsts_9 ?_
  obtain ⟨⟨fs, he⟩, hv⟩ := hv
  obtain ⟨d2, mc2, ms2, Q, hM, hd9, hc9, hs9, hv, hx⟩ := hv
  refine aw_callV (rest := [.int x1]) hM he rfl rfl nX3_edgeCount q527 q528 q529 q121 q530 dX1_tellFirsts_12 rfl hd9 (by decide) (Nat.le_of_ble_eq_true rfl) hc9 hs9 ?_ ?_
  rotate_left
  · exact fun E h2 q => aX_out (hx E h2 q) rfl hc9 hs9
  intro v9 h3 hq
  have hv := hv v9 h3 hq
  obtain ⟨y2, rfl, hv⟩ := hv
  refine aw_eqv (pc2 := 15) (st2 := [.int y2, .int x1]) rfl rfl rfl rfl ?_
  revert hv hc9 hs9; generalize c + mc2 = c4; generalize s + ms2 = s5; intro hc9 hs9 hv
  refine aw_icmp_ge 79 dX1_tellFirsts_15 (by decide) (fun c6 => ?_) (fun c6 => ?_)
  · have hv := hv.1 c6
    refine aw_aload_n 0 (x := x0) dX1_tellFirsts_79 rfl rfl ?_
    obtain ⟨fs, a7, he, hx, hv⟩ := hv
    refine aw_get (v := .ref a7) he rfl in_X1 1 (by decide) q435 (Or.inl rfl) hx dX1_tellFirsts_80 ?_
    obtain ⟨⟨fs, he⟩, hv⟩ := hv
    obtain ⟨d2, mc2, ms2, Q, hM, hd9, hc9, hs9, hv, hx⟩ := hv
    refine aw_callV (rest := []) hM he rfl rfl nX3_told q562 q563 q564 q121 q565 dX1_tellFirsts_83 rfl hd9 (by decide) (Nat.le_of_ble_eq_true rfl) hc9 hs9 ?_ ?_
    rotate_left
    · exact fun E h2 q => aX_out (hx E h2 q) rfl hc9 hs9
    intro v9 h9 hq
    have hv := hv v9 h9 hq
    obtain ⟨y8, rfl, hv⟩ := hv
    refine aw_eqv (pc2 := 86) (st2 := [.int y8]) rfl rfl rfl rfl ?_
    revert hv hc9 hs9; generalize c4 + mc2 = c10; generalize s5 + ms2 = s11; intro hc9 hs9 hv
    exact aw_iret rfl dX1_tellFirsts_86 hv hc9 hs9
  · have hv := hv.2 c6
    refine aw_aload_n 0 (x := x0) dX1_tellFirsts_18 rfl rfl ?_
    refine aw_aload_n 0 (x := x0) dX1_tellFirsts_19 rfl rfl ?_
    obtain ⟨fs, a12, he, hx, hv⟩ := hv
    refine aw_get (v := .ref a12) he rfl in_X1 1 (by decide) q435 (Or.inl rfl) hx dX1_tellFirsts_20 ?_
    refine aw_iload_n 1 dX1_tellFirsts_23 rfl rfl ?_
    obtain ⟨⟨fs, he⟩, hv⟩ := hv
    obtain ⟨d2, mc2, ms2, Q, hM, hd9, hc9, hs9, hv, hx⟩ := hv
    refine aw_callV (rest := [.ref x0]) hM he rfl rfl nX3_lineAt q531 q532 q533 q121 q534 dX1_tellFirsts_24 rfl hd9 (by decide) (Nat.le_of_ble_eq_true rfl) hc9 hs9 ?_ ?_
    rotate_left
    · exact fun E h2 q => aX_out (hx E h2 q) rfl hc9 hs9
    intro v9 h14 hq
    have hv := hv v9 h14 hq
    obtain ⟨y13, rfl, hv⟩ := hv
    refine aw_eqv (pc2 := 27) (st2 := [.int y13, .ref x0]) rfl rfl rfl rfl ?_
    revert hv hc9 hs9; generalize c4 + mc2 = c15; generalize s5 + ms2 = s16; intro hc9 hs9 hv
    obtain ⟨⟨fs, he⟩, hv⟩ := hv
    obtain ⟨d2, mc2, ms2, Q, hM, hd9, hc9, hs9, hv, hx⟩ := hv
    refine aw_callV (rest := []) hM he rfl rfl nX1_settledLine q535 q537 qs8 q119 q538 dX1_tellFirsts_27 rfl hd9 (by decide) (Nat.le_of_ble_eq_true rfl) hc9 hs9 ?_ ?_
    rotate_left
    · exact fun E h2 q => aX_out (hx E h2 q) rfl hc9 hs9
    intro v9 h18 hq
    have hv := hv v9 h18 hq
    obtain ⟨o17, rfl, hv⟩ := hv
    refine aw_eqv (pc2 := 30) (st2 := [va_rf o17]) rfl rfl rfl rfl ?_
    revert hv hc9 hs9; generalize c15 + mc2 = c19; generalize s16 + ms2 = s20; intro hc9 hs9 hv
    refine aw_astorer_n (lv' := [(2, va_rf o17), (0, .ref x0), (1, .int x1)]) dX1_tellFirsts_30 rfl (Nat.le_of_ble_eq_true rfl) rfl ?_
    refine aw_aloadr_n 0 (x := o17) dX1_tellFirsts_31 rfl rfl ?_
    refine aw_ifnull 73 dX1_tellFirsts_32 (by decide) (fun c22 => ?_) (fun q21 c22 => ?_)
    · have hv := hv.1 c22
      refine aw_iinc 2 (v := x1 + 1) (lv' := [(1, .int (x1 + 1)), (2, va_rf o17), (0, .ref x0)]) dX1_tellFirsts_73 rfl rfl (Nat.le_of_ble_eq_true rfl) rfl ?_
      refine aw_goto 7 dX1_tellFirsts_76 (by decide) ?_
      refine aw_sub [2, 0] rfl ?_
      exact hv hc9 hs9
    · have hv := hv.2 q21 c22
      refine aw_eqv (lv2 := [(2, .ref q21), (0, .ref x0), (1, .int x1)]) (st2 := []) rfl (by first | rfl | (rw [c22]; rfl)) (by first | rfl | (rw [c22]; rfl)) rfl ?_
      refine aw_aload_n 1 (x := x0) dX1_tellFirsts_35 rfl rfl ?_
      refine aw_aload_n 0 (x := q21) dX1_tellFirsts_36 rfl rfl ?_
      obtain ⟨⟨fs, he⟩, hv⟩ := hv
      obtain ⟨d2, mc2, ms2, Q, hM, hd9, hc9, hs9, hv, hx⟩ := hv
      refine aw_callV (rest := []) hM he rfl rfl nX1_isComplete q546 q548 qs9 q119 q549 dX1_tellFirsts_37 rfl hd9 (by decide) (Nat.le_of_ble_eq_true rfl) hc9 hs9 ?_ ?_
      rotate_left
      · exact fun E h2 q => aX_out (hx E h2 q) rfl hc9 hs9
      intro v9 h24 hq
      have hv := hv v9 h24 hq
      obtain ⟨y23, rfl, hv⟩ := hv
      refine aw_eqv (pc2 := 40) (st2 := [.int y23]) rfl rfl rfl rfl ?_
      revert hv hc9 hs9; generalize c19 + mc2 = c25; generalize s20 + ms2 = s26; intro hc9 hs9 hv
      refine aw_if_eq 73 dX1_tellFirsts_40 (by decide) (fun c27 => ?_) (fun c27 => ?_)
      · have hv := hv.1 c27
        refine aw_iinc 2 (v := x1 + 1) (lv' := [(1, .int (x1 + 1)), (2, .ref q21), (0, .ref x0)]) dX1_tellFirsts_73 rfl rfl (Nat.le_of_ble_eq_true rfl) rfl ?_
        refine aw_goto 7 dX1_tellFirsts_76 (by decide) ?_
        refine aw_sub [2, 0] rfl ?_
        exact hv hc9 hs9
      · have hv := hv.2 c27
        refine aw_aload_n 1 (x := x0) dX1_tellFirsts_43 rfl rfl ?_
        obtain ⟨fs, a28, he, hx, hv⟩ := hv
        refine aw_get (v := .ref a28) he rfl in_X1 1 (by decide) q435 (Or.inl rfl) hx dX1_tellFirsts_44 ?_
        refine aw_iload_n 2 dX1_tellFirsts_47 rfl rfl ?_
        refine aw_aload_n 1 (x := x0) dX1_tellFirsts_48 rfl rfl ?_
        obtain ⟨fs, a29, he, hx, hv⟩ := hv
        refine aw_get (v := .ref a29) he rfl in_X1 1 (by decide) q435 (Or.inl rfl) hx dX1_tellFirsts_49 ?_
        obtain ⟨fs, y30, he, hx, hv⟩ := hv
        refine aw_getN (v := .int y30) he rfl in_X3 5 (by decide) q335 (Or.inl rfl) hx dX1_tellFirsts_52 ?_
        refine aw_iconst (v := 0) dX1_tellFirsts_55 (by decide) ?_
        refine aw_aload_n 1 (x := x0) dX1_tellFirsts_56 rfl rfl ?_
        obtain ⟨fs, a31, he, hx, hv⟩ := hv
        refine aw_get (v := .ref a31) he rfl in_X1 1 (by decide) q435 (Or.inl rfl) hx dX1_tellFirsts_57 ?_
        refine aw_iload_n 2 dX1_tellFirsts_60 rfl rfl ?_
        obtain ⟨⟨fs, he⟩, hv⟩ := hv
        obtain ⟨d2, mc2, ms2, Q, hM, hd9, hc9, hs9, hv, hx⟩ := hv
        refine aw_callV (rest := [.int 0, .int y30, .int x1, .ref a28]) hM he rfl rfl nX3_looksBack q551 q552 q553 q121 q554 dX1_tellFirsts_61 rfl hd9 (by decide) (Nat.le_of_ble_eq_true rfl) hc9 hs9 ?_ ?_
        rotate_left
        · exact fun E h2 q => aX_out (hx E h2 q) rfl hc9 hs9
        intro v9 h33 hq
        have hv := hv v9 h33 hq
        obtain ⟨y32, rfl, hv⟩ := hv
        refine aw_eqv (pc2 := 64) (st2 := [.int y32, .int 0, .int y30, .int x1, .ref a28]) rfl rfl rfl rfl ?_
        revert hv hc9 hs9; generalize c25 + mc2 = c34; generalize s26 + ms2 = s35; intro hc9 hs9 hv
        refine aw_aload_n 0 (x := q21) dX1_tellFirsts_64 rfl rfl ?_
        obtain ⟨d2, mc2, ms2, Q, hM, hd9, hc9, hs9, hv, hx⟩ := hv
        refine aw_callS (rest := [.int x1, .ref a28]) hM nX1_seen q555 q556 q119 q557 dX1_tellFirsts_65 rfl hd9 (by decide) (Nat.le_of_ble_eq_true rfl) hc9 hs9 ?_ ?_
        rotate_left
        · exact fun E h2 q => aX_out (hx E h2 q) rfl hc9 hs9
        intro v9 h37 hq
        have hv := hv v9 h37 hq
        obtain ⟨y36, rfl, hv⟩ := hv
        refine aw_eqv (pc2 := 68) (st2 := [.int y36, .int x1, .ref a28]) rfl rfl rfl rfl ?_
        revert hv hc9 hs9; generalize c34 + mc2 = c38; generalize s35 + ms2 = s39; intro hc9 hs9 hv
        refine aw_iconst (v := 0) dX1_tellFirsts_68 (by decide) ?_
        obtain ⟨⟨fs, he⟩, hv⟩ := hv
        obtain ⟨d2, mc2, ms2, Q, hM, hd9, hc9, hs9, hv, hx⟩ := hv
        refine aw_callV (rest := []) hM he rfl rfl nX3_tell q558 q559 q560 q121 q561 dX1_tellFirsts_69 rfl hd9 (by decide) (Nat.le_of_ble_eq_true rfl) hc9 hs9 ?_ ?_
        rotate_left
        · exact fun E h2 q => aX_out (hx E h2 q) rfl hc9 hs9
        intro v9 h41 hq
        have hv := hv v9 h41 hq
        obtain ⟨y40, rfl, hv⟩ := hv
        refine aw_eqv (pc2 := 72) (st2 := [.int y40]) rfl rfl rfl rfl ?_
        revert hv hc9 hs9; generalize c38 + mc2 = c42; generalize s39 + ms2 = s43; intro hc9 hs9 hv
        refine aw_istore_n (lv' := [(3, .int y40), (2, .ref q21), (0, .ref x0), (1, .int x1)]) dX1_tellFirsts_72 rfl (Nat.le_of_ble_eq_true rfl) rfl ?_
        refine aw_iinc 3 (v := x1 + 1) (lv' := [(1, .int (x1 + 1)), (3, .int y40), (2, .ref q21), (0, .ref x0)]) dX1_tellFirsts_73 rfl rfl (Nat.le_of_ble_eq_true rfl) rfl ?_
        refine aw_goto 7 dX1_tellFirsts_76 (by decide) ?_
        refine aw_sub [3, 0] rfl ?_
        exact hv hc9 hs9
def V_X1_tellFirsts_0 (l : Launch) (G : aG) (d mc ms : Nat) (P : aR → aH → Prop) (x0 : Nat) (h : aH) : Prop :=
  vIs h x0 1 (
  vC l G mX1_recordIf (wsN mX1_recordIf) d mc ms [.ref x0, .int 1] h 0 0 (xP P) (kV fun h45 c46 s47 => 
  T_X1_tellFirsts_7 l G d mc ms P x0 0 h45 c46 s47))
set_option maxHeartbeats 4000000 in
theorem A_X1_tellFirsts {l : Launch} {G : aG} {d mc ms : Nat} {P : aR → aH → Prop} {x0 : Nat} {h : aH} (hl : l.stackTraces = false) (hv : V_X1_tellFirsts_0 l G d mc ms P x0 h) : aC l G mX1_tellFirsts (wsN mX1_tellFirsts) d mc ms [.ref x0] h P := by
  refine aC_ofF (M := mX1_tellFirsts) rfl pX1_tellFirsts (Nat.le_of_ble_eq_true rfl) hl ?_
  refine aw_eqv (lv2 := [(0, .ref x0)]) rfl rfl rfl rfl ?_
  unfold V_X1_tellFirsts_0 at hv
  refine aw_aload_n 0 (x := x0) dX1_tellFirsts_0 rfl rfl ?_
  refine aw_iconst (v := 1) dX1_tellFirsts_1 (by decide) ?_
  obtain ⟨⟨fs, he⟩, hv⟩ := hv
  obtain ⟨d2, mc2, ms2, Q, hM, hd9, hc9, hs9, hv, hx⟩ := hv
  refine aw_callV (rest := []) hM he rfl rfl nX1_recordIf q464 q466 qs6 q119 q467 dX1_tellFirsts_2 rfl hd9 (by decide) (Nat.le_of_ble_eq_true rfl) hc9 hs9 ?_ ?_
  rotate_left
  · exact fun E h2 q => aX_out (hx E h2 q) rfl hc9 hs9
  intro v9 h45 hq
  have hv := hv v9 h45 hq
  obtain ⟨rfl, hv⟩ := hv
  refine aw_eqv (pc2 := 5) (st2 := []) rfl rfl rfl rfl ?_
  revert hv hc9 hs9; generalize 0 + mc2 = c46; generalize 0 + ms2 = s47; intro hc9 hs9 hv
  refine aw_iconst (v := 0) dX1_tellFirsts_5 (by decide) ?_
  refine aw_istore_n (lv' := [(1, .int 0), (0, .ref x0)]) dX1_tellFirsts_6 rfl (Nat.le_of_ble_eq_true rfl) rfl ?_
  refine aw_sub [1, 0] rfl ?_
  exact hv hc9 hs9
def T_X1_mirror_18 (l : Launch) (G : aG) (d mc ms : Nat) (P : aR → aH → Prop) (x0 : Nat) (x1 : Int32) (h : aH) (c s : Nat) : Prop := c ≤ mc → s ≤ ms → AW l G mX1_mirror d mc ms P 18 [(0, .ref x0), (1, .int x1)] [] h c s
def T_X1_mirror_90 (l : Launch) (G : aG) (d mc ms : Nat) (P : aR → aH → Prop) (x0 : Nat) (x1 : Nat) (x2 : Int32) (x3 : Int32) (h : aH) (c s : Nat) : Prop := c ≤ mc → s ≤ ms → AW l G mX1_mirror d mc ms P 90 [(0, .ref x0), (1, .ref x1), (2, .int x2), (3, .int x3)] [] h c s
def V_X1_mirror_18 (l : Launch) (G : aG) (d mc ms : Nat) (P : aR → aH → Prop) (x0 : Nat) (x1 : Int32) (h : aH) (c s : Nat) : Prop :=
  vR h x0 1 1 fun a1 =>
  vIs h a1 3 (
  vC l G mX3_cellCount (wsN mX3_cellCount) d mc ms [.ref a1] h c s (xP P) (kI fun y2 h3 c4 s5 => 
  (y2 ≤ x1 → 
    vNewA .int h3 (20 : Int32) mc ms c4 s5 fun a7 h8 c9 s10 => h3 a7 = none →
    vR h8 x0 1 1 fun a12 =>
    vI h8 a12 3 6 fun y13 =>
    vR h8 x0 1 1 fun a14 =>
    vR h8 a14 3 0 fun a15 =>
    1 ≤ d ∧ vCpyI .int h8 a15 (0 : Int32) a7 (0 : Int32) (20 : Int32) fun h16 =>
    T_X1_mirror_90 l G d mc ms P x0 a7 y13 0 h16 c9 s10
    ) ∧ (¬ y2 ≤ x1 → 
    vR h3 x0 1 2 fun a17 =>
    vR h3 a17 5 1 fun a18 =>
    vR h3 x0 1 1 fun a19 =>
    vIs h3 a19 3 (
    vC l G mX3_mirrored (wsN mX3_mirrored) d mc ms [.ref a19, .int x1] h3 c4 s5 (xP P) (kI fun y20 h21 c22 s23 => 
    vR h21 x0 1 4 fun a24 =>
    vR h21 a24 5 1 fun a25 =>
    vA .int h21 a25 x1 fun y26 =>
    vSt .int h21 a18 y20 y26 fun h27 =>
    T_X1_mirror_18 l G d mc ms P x0 (x1 + 1) h27 c22 s23))
    )))
set_option maxHeartbeats 4000000 in
theorem A_X1_mirror_18 {l : Launch} {G : aG} {d mc ms : Nat} {P : aR → aH → Prop} {x0 : Nat} {x1 : Int32} {h : aH} {c s : Nat} (hl : l.stackTraces = false) (hv : V_X1_mirror_18 l G d mc ms P x0 x1 h c s) : T_X1_mirror_18 l G d mc ms P x0 x1 h c s := by
  intro hc hs
  unfold V_X1_mirror_18 at hv
  refine aw_iload_n 1 dX1_mirror_18 rfl rfl ?_
  refine aw_aload_n 0 (x := x0) dX1_mirror_19 rfl rfl ?_
  obtain ⟨fs, a1, he, hx, hv⟩ := hv
  refine aw_get (v := .ref a1) he rfl in_X1 1 (by decide) q435 (Or.inl rfl) hx dX1_mirror_20 ?_
  obtain ⟨⟨fs, he⟩, hv⟩ := hv
  obtain ⟨d2, mc2, ms2, Q, hM, hd9, hc9, hs9, hv, hx⟩ := hv
  refine aw_callV (rest := [.int x1]) hM he rfl rfl nX3_cellCount q572 q369 q370 q121 q371 dX1_mirror_23 rfl hd9 (by decide) (Nat.le_of_ble_eq_true rfl) hc9 hs9 ?_ ?_
  rotate_left
  · exact fun E h2 q => aX_out (hx E h2 q) rfl hc9 hs9
  intro v9 h3 hq
  have hv := hv v9 h3 hq
  obtain ⟨y2, rfl, hv⟩ := hv
  refine aw_eqv (pc2 := 26) (st2 := [.int y2, .int x1]) rfl rfl rfl rfl ?_
  revert hv hc9 hs9; generalize c + mc2 = c4; generalize s + ms2 = s5; intro hc9 hs9 hv
  refine aw_icmp_ge 60 dX1_mirror_26 (by decide) (fun c6 => ?_) (fun c6 => ?_)
  · have hv := hv.1 c6
    refine aw_bipush (v := 20) dX1_mirror_60 (by decide) ?_
    obtain ⟨N9, hn9, hN9, hb9, hc9, hs9, hv⟩ := hv
    refine aw_newa (atype := .int) (ty := .int) (a0 := (N9, .inl fun _ => 0)) rfl 0 rfl q215 (fun _ => rfl) hn9 hN9 (by show _ * 4 ≤ _; omega) (fun _ _ h9 => h9) hc9 hs9 dX1_mirror_62 (fun a7 g11 => ?_)
    have hv := hv a7 g11 g11
    refine aw_eqv (pc2 := 64) (st2 := [.ref a7]) rfl rfl rfl rfl ?_
    revert hv hc9 hs9; generalize aUp h3 a7 (.inl (.int, (N9, .inl fun _ => 0))) = h8; generalize c4 + 1 = c9; generalize s5 + N9 = s10; intro hc9 hs9 hv
    refine aw_astore_n (lv' := [(1, .ref a7), (0, .ref x0)]) dX1_mirror_64 rfl (Nat.le_of_ble_eq_true rfl) rfl ?_
    refine aw_aload_n 1 (x := x0) dX1_mirror_65 rfl rfl ?_
    obtain ⟨fs, a12, he, hx, hv⟩ := hv
    refine aw_get (v := .ref a12) he rfl in_X1 1 (by decide) q435 (Or.inl rfl) hx dX1_mirror_66 ?_
    obtain ⟨fs, y13, he, hx, hv⟩ := hv
    refine aw_getN (v := .int y13) he rfl in_X3 6 (by decide) q337 (Or.inl rfl) hx dX1_mirror_69 ?_
    refine aw_istore_n (lv' := [(2, .int y13), (1, .ref a7), (0, .ref x0)]) dX1_mirror_72 rfl (Nat.le_of_ble_eq_true rfl) rfl ?_
    refine aw_aload_n 2 (x := x0) dX1_mirror_73 rfl rfl ?_
    obtain ⟨fs, a14, he, hx, hv⟩ := hv
    refine aw_get (v := .ref a14) he rfl in_X1 1 (by decide) q435 (Or.inl rfl) hx dX1_mirror_74 ?_
    obtain ⟨fs, a15, he, hx, hv⟩ := hv
    refine aw_getN (v := .ref a15) he rfl in_X3 0 (by decide) q322 (Or.inl rfl) hx dX1_mirror_77 ?_
    refine aw_iconst (v := 0) dX1_mirror_80 (by decide) ?_
    refine aw_aload_n 1 (x := a7) dX1_mirror_81 rfl rfl ?_
    refine aw_iconst (v := 0) dX1_mirror_82 (by decide) ?_
    refine aw_bipush (v := 20) dX1_mirror_83 (by decide) ?_
    obtain ⟨hd9, n0, n1, f9, g9, he0, he1, w1, w2, w3, w4, w5, hfit, hv⟩ := hv
    refine aw_copyI 0 rfl rfl q577 q222 q221 q126 he0 he1 w1 w2 w3 w4 w5 hfit hd9 (Nat.le_of_ble_eq_true rfl) rfl dX1_mirror_85 ?_
    revert hv; generalize aUp h8 a7 (aInts .int n1 (va_cpy f9 g9 ((0 : Int32)).toNatClampNeg ((0 : Int32)).toNatClampNeg ((20 : Int32)).toNatClampNeg)) = h16; intro hv
    refine aw_iconst (v := 0) dX1_mirror_88 (by decide) ?_
    refine aw_istore_n (lv' := [(3, .int 0), (2, .int y13), (1, .ref a7), (0, .ref x0)]) dX1_mirror_89 rfl (Nat.le_of_ble_eq_true rfl) rfl ?_
    refine aw_sub [3, 2, 1, 0] rfl ?_
    exact hv hc9 hs9
  · have hv := hv.2 c6
    refine aw_aload_n 0 (x := x0) dX1_mirror_29 rfl rfl ?_
    obtain ⟨fs, a17, he, hx, hv⟩ := hv
    refine aw_get (v := .ref a17) he rfl in_X1 2 (by decide) q436 (Or.inl rfl) hx dX1_mirror_30 ?_
    obtain ⟨fs, a18, he, hx, hv⟩ := hv
    refine aw_getN (v := .ref a18) he rfl in_X5 1 (by decide) q378 (Or.inl rfl) hx dX1_mirror_33 ?_
    refine aw_aload_n 0 (x := x0) dX1_mirror_36 rfl rfl ?_
    obtain ⟨fs, a19, he, hx, hv⟩ := hv
    refine aw_get (v := .ref a19) he rfl in_X1 1 (by decide) q435 (Or.inl rfl) hx dX1_mirror_37 ?_
    refine aw_iload_n 1 dX1_mirror_40 rfl rfl ?_
    obtain ⟨⟨fs, he⟩, hv⟩ := hv
    obtain ⟨d2, mc2, ms2, Q, hM, hd9, hc9, hs9, hv, hx⟩ := hv
    refine aw_callV (rest := [.ref a18]) hM he rfl rfl nX3_mirrored q573 q574 q575 q121 q576 dX1_mirror_41 rfl hd9 (by decide) (Nat.le_of_ble_eq_true rfl) hc9 hs9 ?_ ?_
    rotate_left
    · exact fun E h2 q => aX_out (hx E h2 q) rfl hc9 hs9
    intro v9 h21 hq
    have hv := hv v9 h21 hq
    obtain ⟨y20, rfl, hv⟩ := hv
    refine aw_eqv (pc2 := 44) (st2 := [.int y20, .ref a18]) rfl rfl rfl rfl ?_
    revert hv hc9 hs9; generalize c4 + mc2 = c22; generalize s5 + ms2 = s23; intro hc9 hs9 hv
    refine aw_aload_n 0 (x := x0) dX1_mirror_44 rfl rfl ?_
    obtain ⟨fs, a24, he, hx, hv⟩ := hv
    refine aw_get (v := .ref a24) he rfl in_X1 4 (by decide) q438 (Or.inl rfl) hx dX1_mirror_45 ?_
    obtain ⟨fs, a25, he, hx, hv⟩ := hv
    refine aw_getN (v := .ref a25) he rfl in_X5 1 (by decide) q378 (Or.inl rfl) hx dX1_mirror_48 ?_
    refine aw_iload_n 1 dX1_mirror_51 rfl rfl ?_
    obtain ⟨n9, f9, he, hin, hv⟩ := hv
    refine aw_iald he hin dX1_mirror_52 ?_
    revert hv; generalize f9 (x1).toNatClampNeg = y26; intro hv
    obtain ⟨n9, f9, he, hin, hv⟩ := hv
    refine aw_iast he hin rfl dX1_mirror_53 ?_
    revert hv; generalize aUp h21 a18 (aInts .int n9 (upd f9 (y20).toNatClampNeg y26)) = h27; intro hv
    refine aw_iinc 1 (v := x1 + 1) (lv' := [(1, .int (x1 + 1)), (0, .ref x0)]) dX1_mirror_54 rfl rfl (Nat.le_of_ble_eq_true rfl) rfl ?_
    refine aw_goto 18 dX1_mirror_57 (by decide) ?_
    refine aw_sub [1, 0] rfl ?_
    exact hv hc9 hs9
def V_X1_mirror_90 (l : Launch) (G : aG) (d mc ms : Nat) (P : aR → aH → Prop) (x0 : Nat) (x1 : Nat) (x2 : Int32) (x3 : Int32) (h : aH) (c s : Nat) : Prop :=
  vR h x0 1 1 fun a28 =>
  vIs h a28 3 (
  vC l G mX3_edgeCount (wsN mX3_edgeCount) d mc ms [.ref a28] h c s (xP P) (kI fun y29 h30 c31 s32 => 
  (y29 ≤ x3 → 
    vR h30 x0 1 1 fun a34 =>
    vIs h30 a34 3 (
    vC l G mX3_told (wsN mX3_told) d mc ms [.ref a34] h30 c31 s32 (xP P) (kI fun y35 h36 c37 s38 => 
    P (.inl (some (.int y35))) h36))
    ) ∧ (¬ y29 ≤ x3 → 
    vR h30 x0 1 1 fun a39 =>
    vR h30 x0 1 1 fun a40 =>
    vIs h30 a40 3 (
    vC l G mX3_mirroredEdge (wsN mX3_mirroredEdge) d mc ms [.ref a40, .int x3] h30 c31 s32 (xP P) (kI fun y41 h42 c43 s44 => 
    vA .int h42 x1 x3 fun y45 =>
    vC l G mX1_has (wsN mX1_has) d mc ms [.int x2, .int x3] h42 c43 s44 (xP P) (kI fun y46 h47 c48 s49 => 
    vIs h47 a39 3 (
    vC l G mX3_tell (wsN mX3_tell) d mc ms [.ref a39, .int y41, .int y45, .int y46] h47 c48 s49 (xP P) (kI fun y50 h51 c52 s53 => 
    T_X1_mirror_90 l G d mc ms P x0 x1 x2 (x3 + 1) h51 c52 s53)))))
    )))
set_option maxHeartbeats 4000000 in
theorem A_X1_mirror_90 {l : Launch} {G : aG} {d mc ms : Nat} {P : aR → aH → Prop} {x0 : Nat} {x1 : Nat} {x2 : Int32} {x3 : Int32} {h : aH} {c s : Nat} (hl : l.stackTraces = false) (hv : V_X1_mirror_90 l G d mc ms P x0 x1 x2 x3 h c s) : T_X1_mirror_90 l G d mc ms P x0 x1 x2 x3 h c s := by
  intro hc hs
  unfold V_X1_mirror_90 at hv
  refine aw_iload_n 3 dX1_mirror_90 rfl rfl ?_
  refine aw_aload_n 0 (x := x0) dX1_mirror_91 rfl rfl ?_
  obtain ⟨fs, a28, he, hx, hv⟩ := hv
  refine aw_get (v := .ref a28) he rfl in_X1 1 (by decide) q435 (Or.inl rfl) hx dX1_mirror_92 ?_
  obtain ⟨⟨fs, he⟩, hv⟩ := hv
  obtain ⟨d2, mc2, ms2, Q, hM, hd9, hc9, hs9, hv, hx⟩ := hv
  refine aw_callV (rest := [.int x3]) hM he rfl rfl nX3_edgeCount q527 q528 q529 q121 q530 dX1_mirror_95 rfl hd9 (by decide) (Nat.le_of_ble_eq_true rfl) hc9 hs9 ?_ ?_
  rotate_left
  · exact fun E h2 q => aX_out (hx E h2 q) rfl hc9 hs9
  intro v9 h30 hq
  have hv := hv v9 h30 hq
  obtain ⟨y29, rfl, hv⟩ := hv
  refine aw_eqv (pc2 := 98) (st2 := [.int y29, .int x3]) rfl rfl rfl rfl ?_
  revert hv hc9 hs9; generalize c + mc2 = c31; generalize s + ms2 = s32; intro hc9 hs9 hv
  refine aw_icmp_ge 132 dX1_mirror_98 (by decide) (fun c33 => ?_) (fun c33 => ?_)
  · have hv := hv.1 c33
    refine aw_aload_n 0 (x := x0) dX1_mirror_132 rfl rfl ?_
    obtain ⟨fs, a34, he, hx, hv⟩ := hv
    refine aw_get (v := .ref a34) he rfl in_X1 1 (by decide) q435 (Or.inl rfl) hx dX1_mirror_133 ?_
    obtain ⟨⟨fs, he⟩, hv⟩ := hv
    obtain ⟨d2, mc2, ms2, Q, hM, hd9, hc9, hs9, hv, hx⟩ := hv
    refine aw_callV (rest := []) hM he rfl rfl nX3_told q562 q563 q564 q121 q565 dX1_mirror_136 rfl hd9 (by decide) (Nat.le_of_ble_eq_true rfl) hc9 hs9 ?_ ?_
    rotate_left
    · exact fun E h2 q => aX_out (hx E h2 q) rfl hc9 hs9
    intro v9 h36 hq
    have hv := hv v9 h36 hq
    obtain ⟨y35, rfl, hv⟩ := hv
    refine aw_eqv (pc2 := 139) (st2 := [.int y35]) rfl rfl rfl rfl ?_
    revert hv hc9 hs9; generalize c31 + mc2 = c37; generalize s32 + ms2 = s38; intro hc9 hs9 hv
    exact aw_iret rfl dX1_mirror_139 hv hc9 hs9
  · have hv := hv.2 c33
    refine aw_aload_n 0 (x := x0) dX1_mirror_101 rfl rfl ?_
    obtain ⟨fs, a39, he, hx, hv⟩ := hv
    refine aw_get (v := .ref a39) he rfl in_X1 1 (by decide) q435 (Or.inl rfl) hx dX1_mirror_102 ?_
    refine aw_aload_n 0 (x := x0) dX1_mirror_105 rfl rfl ?_
    obtain ⟨fs, a40, he, hx, hv⟩ := hv
    refine aw_get (v := .ref a40) he rfl in_X1 1 (by decide) q435 (Or.inl rfl) hx dX1_mirror_106 ?_
    refine aw_iload_n 3 dX1_mirror_109 rfl rfl ?_
    obtain ⟨⟨fs, he⟩, hv⟩ := hv
    obtain ⟨d2, mc2, ms2, Q, hM, hd9, hc9, hs9, hv, hx⟩ := hv
    refine aw_callV (rest := [.ref a39]) hM he rfl rfl nX3_mirroredEdge q578 q579 q580 q121 q581 dX1_mirror_110 rfl hd9 (by decide) (Nat.le_of_ble_eq_true rfl) hc9 hs9 ?_ ?_
    rotate_left
    · exact fun E h2 q => aX_out (hx E h2 q) rfl hc9 hs9
    intro v9 h42 hq
    have hv := hv v9 h42 hq
    obtain ⟨y41, rfl, hv⟩ := hv
    refine aw_eqv (pc2 := 113) (st2 := [.int y41, .ref a39]) rfl rfl rfl rfl ?_
    revert hv hc9 hs9; generalize c31 + mc2 = c43; generalize s32 + ms2 = s44; intro hc9 hs9 hv
    refine aw_aload_n 1 (x := x1) dX1_mirror_113 rfl rfl ?_
    refine aw_iload_n 3 dX1_mirror_114 rfl rfl ?_
    obtain ⟨n9, f9, he, hin, hv⟩ := hv
    refine aw_iald he hin dX1_mirror_115 ?_
    revert hv; generalize f9 (x3).toNatClampNeg = y45; intro hv
    refine aw_iload_n 2 dX1_mirror_116 rfl rfl ?_
    refine aw_iload_n 3 dX1_mirror_117 rfl rfl ?_
    obtain ⟨d2, mc2, ms2, Q, hM, hd9, hc9, hs9, hv, hx⟩ := hv
    refine aw_callS (rest := [.int y45, .int y41, .ref a39]) hM nX1_has q582 q298 q119 q299 dX1_mirror_118 rfl hd9 (by decide) (Nat.le_of_ble_eq_true rfl) hc9 hs9 ?_ ?_
    rotate_left
    · exact fun E h2 q => aX_out (hx E h2 q) rfl hc9 hs9
    intro v9 h47 hq
    have hv := hv v9 h47 hq
    obtain ⟨y46, rfl, hv⟩ := hv
    refine aw_eqv (pc2 := 121) (st2 := [.int y46, .int y45, .int y41, .ref a39]) rfl rfl rfl rfl ?_
    revert hv hc9 hs9; generalize c43 + mc2 = c48; generalize s44 + ms2 = s49; intro hc9 hs9 hv
    obtain ⟨⟨fs, he⟩, hv⟩ := hv
    obtain ⟨d2, mc2, ms2, Q, hM, hd9, hc9, hs9, hv, hx⟩ := hv
    refine aw_callV (rest := []) hM he rfl rfl nX3_tell q558 q559 q560 q121 q561 dX1_mirror_121 rfl hd9 (by decide) (Nat.le_of_ble_eq_true rfl) hc9 hs9 ?_ ?_
    rotate_left
    · exact fun E h2 q => aX_out (hx E h2 q) rfl hc9 hs9
    intro v9 h51 hq
    have hv := hv v9 h51 hq
    obtain ⟨y50, rfl, hv⟩ := hv
    refine aw_eqv (pc2 := 124) (st2 := [.int y50]) rfl rfl rfl rfl ?_
    revert hv hc9 hs9; generalize c48 + mc2 = c52; generalize s49 + ms2 = s53; intro hc9 hs9 hv
    refine aw_istore (lv' := [(4, .int y50), (0, .ref x0), (1, .ref x1), (2, .int x2), (3, .int x3)]) dX1_mirror_124 (Nat.le_of_ble_eq_true rfl) rfl ?_
    refine aw_iinc 4 (v := x3 + 1) (lv' := [(3, .int (x3 + 1)), (4, .int y50), (0, .ref x0), (1, .ref x1), (2, .int x2)]) dX1_mirror_126 rfl rfl (Nat.le_of_ble_eq_true rfl) rfl ?_
    refine aw_goto 90 dX1_mirror_129 (by decide) ?_
    refine aw_sub [2, 3, 4, 0] rfl ?_
    exact hv hc9 hs9
def V_X1_mirror_0 (l : Launch) (G : aG) (d mc ms : Nat) (P : aR → aH → Prop) (x0 : Nat) (h : aH) : Prop :=
  vIs h x0 1 (
  vC l G mX1_recordIf (wsN mX1_recordIf) d mc ms [.ref x0, .int 1] h 0 0 (xP P) (kV fun h55 c56 s57 => 
  vR h55 x0 1 4 fun a58 =>
  vR h55 x0 1 2 fun a59 =>
  vIs h55 a58 5 (
  vC l G mX5_setThings (wsN mX5_setThings) d mc ms [.ref a58, .ref a59] h55 c56 s57 (xP P) (kV fun h61 c62 s63 => 
  T_X1_mirror_18 l G d mc ms P x0 0 h61 c62 s63))))
set_option maxHeartbeats 4000000 in
theorem A_X1_mirror {l : Launch} {G : aG} {d mc ms : Nat} {P : aR → aH → Prop} {x0 : Nat} {h : aH} (hl : l.stackTraces = false) (hv : V_X1_mirror_0 l G d mc ms P x0 h) : aC l G mX1_mirror (wsN mX1_mirror) d mc ms [.ref x0] h P := by
  refine aC_ofF (M := mX1_mirror) rfl pX1_mirror (Nat.le_of_ble_eq_true rfl) hl ?_
  refine aw_eqv (lv2 := [(0, .ref x0)]) rfl rfl rfl rfl ?_
  unfold V_X1_mirror_0 at hv
  refine aw_aload_n 0 (x := x0) dX1_mirror_0 rfl rfl ?_
  refine aw_iconst (v := 1) dX1_mirror_1 (by decide) ?_
  obtain ⟨⟨fs, he⟩, hv⟩ := hv
  obtain ⟨d2, mc2, ms2, Q, hM, hd9, hc9, hs9, hv, hx⟩ := hv
  refine aw_callV (rest := []) hM he rfl rfl nX1_recordIf q464 q466 qs6 q119 q467 dX1_mirror_2 rfl hd9 (by decide) (Nat.le_of_ble_eq_true rfl) hc9 hs9 ?_ ?_
  rotate_left
  · exact fun E h2 q => aX_out (hx E h2 q) rfl hc9 hs9
  intro v9 h55 hq
  have hv := hv v9 h55 hq
  obtain ⟨rfl, hv⟩ := hv
  refine aw_eqv (pc2 := 5) (st2 := []) rfl rfl rfl rfl ?_
  revert hv hc9 hs9; generalize 0 + mc2 = c56; generalize 0 + ms2 = s57; intro hc9 hs9 hv
  refine aw_aload_n 0 (x := x0) dX1_mirror_5 rfl rfl ?_
  obtain ⟨fs, a58, he, hx, hv⟩ := hv
  refine aw_get (v := .ref a58) he rfl in_X1 4 (by decide) q438 (Or.inl rfl) hx dX1_mirror_6 ?_
  refine aw_aload_n 0 (x := x0) dX1_mirror_9 rfl rfl ?_
  obtain ⟨fs, a59, he, hx, hv⟩ := hv
  refine aw_get (v := .ref a59) he rfl in_X1 2 (by decide) q436 (Or.inl rfl) hx dX1_mirror_10 ?_
  obtain ⟨⟨fs, he⟩, hv⟩ := hv
  obtain ⟨d2, mc2, ms2, Q, hM, hd9, hc9, hs9, hv, hx⟩ := hv
  refine aw_callV (rest := []) hM he rfl rfl nX5_setThings q571 q513 q514 q132 q515 dX1_mirror_13 rfl hd9 (by decide) (Nat.le_of_ble_eq_true rfl) hc9 hs9 ?_ ?_
  rotate_left
  · exact fun E h2 q => aX_out (hx E h2 q) rfl hc9 hs9
  intro v9 h61 hq
  have hv := hv v9 h61 hq
  obtain ⟨rfl, hv⟩ := hv
  refine aw_eqv (pc2 := 16) (st2 := []) rfl rfl rfl rfl ?_
  revert hv hc9 hs9; generalize c56 + mc2 = c62; generalize s57 + ms2 = s63; intro hc9 hs9 hv
  refine aw_iconst (v := 0) dX1_mirror_16 (by decide) ?_
  refine aw_istore_n (lv' := [(1, .int 0), (0, .ref x0)]) dX1_mirror_17 rfl (Nat.le_of_ble_eq_true rfl) rfl ?_
  refine aw_sub [1, 0] rfl ?_
  exact hv hc9 hs9
def V_X1_side_0 (l : Launch) (G : aG) (d mc ms : Nat) (P : aR → aH → Prop) (x0 : Nat) (h : aH) : Prop :=
  vR h x0 1 1 fun a1 =>
  vI h a1 3 4 fun y2 =>
  P (.inl (some (.int y2))) h
set_option maxHeartbeats 4000000 in
theorem A_X1_side {l : Launch} {G : aG} {d mc ms : Nat} {P : aR → aH → Prop} {x0 : Nat} {h : aH} (hl : l.stackTraces = false) (hv : V_X1_side_0 l G d mc ms P x0 h) : aC l G mX1_side (wsN mX1_side) d mc ms [.ref x0] h P := by
  refine aC_ofF (M := mX1_side) rfl pX1_side (Nat.le_of_ble_eq_true rfl) hl ?_
  refine aw_eqv (lv2 := [(0, .ref x0)]) rfl rfl rfl rfl ?_
  unfold V_X1_side_0 at hv
  refine aw_aload_n 0 (x := x0) dX1_side_0 rfl rfl ?_
  obtain ⟨fs, a1, he, hx, hv⟩ := hv
  refine aw_get (v := .ref a1) he rfl in_X1 1 (by decide) q435 (Or.inl rfl) hx dX1_side_1 ?_
  obtain ⟨fs, y2, he, hx, hv⟩ := hv
  refine aw_getN (v := .int y2) he rfl in_X3 4 (by decide) q332 (Or.inl rfl) hx dX1_side_4 ?_
  exact aw_iret rfl dX1_side_7 hv (Nat.zero_le _) (Nat.zero_le _)
def V_X1_letterCount_0 (l : Launch) (G : aG) (d mc ms : Nat) (P : aR → aH → Prop) (x0 : Nat) (h : aH) : Prop :=
  vR h x0 1 1 fun a1 =>
  vI h a1 3 5 fun y2 =>
  P (.inl (some (.int y2))) h
set_option maxHeartbeats 4000000 in
theorem A_X1_letterCount {l : Launch} {G : aG} {d mc ms : Nat} {P : aR → aH → Prop} {x0 : Nat} {h : aH} (hl : l.stackTraces = false) (hv : V_X1_letterCount_0 l G d mc ms P x0 h) : aC l G mX1_letterCount (wsN mX1_letterCount) d mc ms [.ref x0] h P := by
  refine aC_ofF (M := mX1_letterCount) rfl pX1_letterCount (Nat.le_of_ble_eq_true rfl) hl ?_
  refine aw_eqv (lv2 := [(0, .ref x0)]) rfl rfl rfl rfl ?_
  unfold V_X1_letterCount_0 at hv
  refine aw_aload_n 0 (x := x0) dX1_letterCount_0 rfl rfl ?_
  obtain ⟨fs, a1, he, hx, hv⟩ := hv
  refine aw_get (v := .ref a1) he rfl in_X1 1 (by decide) q435 (Or.inl rfl) hx dX1_letterCount_1 ?_
  obtain ⟨fs, y2, he, hx, hv⟩ := hv
  refine aw_getN (v := .int y2) he rfl in_X3 5 (by decide) q335 (Or.inl rfl) hx dX1_letterCount_4 ?_
  exact aw_iret rfl dX1_letterCount_7 hv (Nat.zero_le _) (Nat.zero_le _)
def V_X1_lineCount_0 (l : Launch) (G : aG) (d mc ms : Nat) (P : aR → aH → Prop) (x0 : Nat) (h : aH) : Prop :=
  vR h x0 1 1 fun a1 =>
  vIs h a1 3 (
  vC l G mX3_lineCount (wsN mX3_lineCount) d mc ms [.ref a1] h 0 0 (xP P) (kI fun y2 h3 c4 s5 => 
  P (.inl (some (.int y2))) h3))
set_option maxHeartbeats 4000000 in
theorem A_X1_lineCount {l : Launch} {G : aG} {d mc ms : Nat} {P : aR → aH → Prop} {x0 : Nat} {h : aH} (hl : l.stackTraces = false) (hv : V_X1_lineCount_0 l G d mc ms P x0 h) : aC l G mX1_lineCount (wsN mX1_lineCount) d mc ms [.ref x0] h P := by
  refine aC_ofF (M := mX1_lineCount) rfl pX1_lineCount (Nat.le_of_ble_eq_true rfl) hl ?_
  refine aw_eqv (lv2 := [(0, .ref x0)]) rfl rfl rfl rfl ?_
  unfold V_X1_lineCount_0 at hv
  refine aw_aload_n 0 (x := x0) dX1_lineCount_0 rfl rfl ?_
  obtain ⟨fs, a1, he, hx, hv⟩ := hv
  refine aw_get (v := .ref a1) he rfl in_X1 1 (by decide) q435 (Or.inl rfl) hx dX1_lineCount_1 ?_
  obtain ⟨⟨fs, he⟩, hv⟩ := hv
  obtain ⟨d2, mc2, ms2, Q, hM, hd9, hc9, hs9, hv, hx⟩ := hv
  refine aw_callV (rest := []) hM he rfl rfl nX3_lineCount q595 q314 q315 q121 q316 dX1_lineCount_4 rfl hd9 (by decide) (Nat.le_of_ble_eq_true rfl) hc9 hs9 ?_ ?_
  rotate_left
  · exact fun E h2 q => aX_out (hx E h2 q) rfl hc9 hs9
  intro v9 h3 hq
  have hv := hv v9 h3 hq
  obtain ⟨y2, rfl, hv⟩ := hv
  refine aw_eqv (pc2 := 7) (st2 := [.int y2]) rfl rfl rfl rfl ?_
  revert hv hc9 hs9; generalize 0 + mc2 = c4; generalize 0 + ms2 = s5; intro hc9 hs9 hv
  exact aw_iret rfl dX1_lineCount_7 hv hc9 hs9
def V_X1_tellingCount_0 (l : Launch) (G : aG) (d mc ms : Nat) (P : aR → aH → Prop) (x0 : Nat) (h : aH) : Prop :=
  vR h x0 1 1 fun a1 =>
  vIs h a1 3 (
  vC l G mX3_told (wsN mX3_told) d mc ms [.ref a1] h 0 0 (xP P) (kI fun y2 h3 c4 s5 => 
  P (.inl (some (.int y2))) h3))
set_option maxHeartbeats 4000000 in
theorem A_X1_tellingCount {l : Launch} {G : aG} {d mc ms : Nat} {P : aR → aH → Prop} {x0 : Nat} {h : aH} (hl : l.stackTraces = false) (hv : V_X1_tellingCount_0 l G d mc ms P x0 h) : aC l G mX1_tellingCount (wsN mX1_tellingCount) d mc ms [.ref x0] h P := by
  refine aC_ofF (M := mX1_tellingCount) rfl pX1_tellingCount (Nat.le_of_ble_eq_true rfl) hl ?_
  refine aw_eqv (lv2 := [(0, .ref x0)]) rfl rfl rfl rfl ?_
  unfold V_X1_tellingCount_0 at hv
  refine aw_aload_n 0 (x := x0) dX1_tellingCount_0 rfl rfl ?_
  obtain ⟨fs, a1, he, hx, hv⟩ := hv
  refine aw_get (v := .ref a1) he rfl in_X1 1 (by decide) q435 (Or.inl rfl) hx dX1_tellingCount_1 ?_
  obtain ⟨⟨fs, he⟩, hv⟩ := hv
  obtain ⟨d2, mc2, ms2, Q, hM, hd9, hc9, hs9, hv, hx⟩ := hv
  refine aw_callV (rest := []) hM he rfl rfl nX3_told q562 q563 q564 q121 q565 dX1_tellingCount_4 rfl hd9 (by decide) (Nat.le_of_ble_eq_true rfl) hc9 hs9 ?_ ?_
  rotate_left
  · exact fun E h2 q => aX_out (hx E h2 q) rfl hc9 hs9
  intro v9 h3 hq
  have hv := hv v9 h3 hq
  obtain ⟨y2, rfl, hv⟩ := hv
  refine aw_eqv (pc2 := 7) (st2 := [.int y2]) rfl rfl rfl rfl ?_
  revert hv hc9 hs9; generalize 0 + mc2 = c4; generalize 0 + ms2 = s5; intro hc9 hs9 hv
  exact aw_iret rfl dX1_tellingCount_7 hv hc9 hs9
def V_X1_clearCells_0 (l : Launch) (G : aG) (d mc ms : Nat) (P : aR → aH → Prop) (x0 : Nat) (h : aH) : Prop :=
  vIs h x0 1 (
  vC l G mX1_recordIf (wsN mX1_recordIf) d mc ms [.ref x0, .int 1] h 0 0 (xP P) (kV fun h2 c3 s4 => 
  vR h2 x0 1 2 fun a5 =>
  vIs h2 a5 5 (
  vC l G mX5_clear (wsN mX5_clear) d mc ms [.ref a5] h2 c3 s4 (xP P) (kI fun y6 h7 c8 s9 => 
  P (.inl (some (.int y6))) h7))))
set_option maxHeartbeats 4000000 in
theorem A_X1_clearCells {l : Launch} {G : aG} {d mc ms : Nat} {P : aR → aH → Prop} {x0 : Nat} {h : aH} (hl : l.stackTraces = false) (hv : V_X1_clearCells_0 l G d mc ms P x0 h) : aC l G mX1_clearCells (wsN mX1_clearCells) d mc ms [.ref x0] h P := by
  refine aC_ofF (M := mX1_clearCells) rfl pX1_clearCells (Nat.le_of_ble_eq_true rfl) hl ?_
  refine aw_eqv (lv2 := [(0, .ref x0)]) rfl rfl rfl rfl ?_
  unfold V_X1_clearCells_0 at hv
  refine aw_aload_n 0 (x := x0) dX1_clearCells_0 rfl rfl ?_
  refine aw_iconst (v := 1) dX1_clearCells_1 (by decide) ?_
  obtain ⟨⟨fs, he⟩, hv⟩ := hv
  obtain ⟨d2, mc2, ms2, Q, hM, hd9, hc9, hs9, hv, hx⟩ := hv
  refine aw_callV (rest := []) hM he rfl rfl nX1_recordIf q464 q466 qs6 q119 q467 dX1_clearCells_2 rfl hd9 (by decide) (Nat.le_of_ble_eq_true rfl) hc9 hs9 ?_ ?_
  rotate_left
  · exact fun E h2 q => aX_out (hx E h2 q) rfl hc9 hs9
  intro v9 h2 hq
  have hv := hv v9 h2 hq
  obtain ⟨rfl, hv⟩ := hv
  refine aw_eqv (pc2 := 5) (st2 := []) rfl rfl rfl rfl ?_
  revert hv hc9 hs9; generalize 0 + mc2 = c3; generalize 0 + ms2 = s4; intro hc9 hs9 hv
  refine aw_aload_n 0 (x := x0) dX1_clearCells_5 rfl rfl ?_
  obtain ⟨fs, a5, he, hx, hv⟩ := hv
  refine aw_get (v := .ref a5) he rfl in_X1 2 (by decide) q436 (Or.inl rfl) hx dX1_clearCells_6 ?_
  obtain ⟨⟨fs, he⟩, hv⟩ := hv
  obtain ⟨d2, mc2, ms2, Q, hM, hd9, hc9, hs9, hv, hx⟩ := hv
  refine aw_callV (rest := []) hM he rfl rfl nX5_clear q604 q365 q366 q132 q367 dX1_clearCells_9 rfl hd9 (by decide) (Nat.le_of_ble_eq_true rfl) hc9 hs9 ?_ ?_
  rotate_left
  · exact fun E h2 q => aX_out (hx E h2 q) rfl hc9 hs9
  intro v9 h7 hq
  have hv := hv v9 h7 hq
  obtain ⟨y6, rfl, hv⟩ := hv
  refine aw_eqv (pc2 := 12) (st2 := [.int y6]) rfl rfl rfl rfl ?_
  revert hv hc9 hs9; generalize c3 + mc2 = c8; generalize s4 + ms2 = s9; intro hc9 hs9 hv
  exact aw_iret rfl dX1_clearCells_12 hv hc9 hs9
def T_X1_settled_4 (l : Launch) (G : aG) (d mc ms : Nat) (P : aR → aH → Prop) (x0 : Nat) (x1 : Int64) (x3 : Int32) (h : aH) (c s : Nat) : Prop := c ≤ mc → s ≤ ms → AW l G mX1_settled d mc ms P 4 [(0, .ref x0), (1, .long x1), (3, .int x3)] [] h c s
def V_X1_settled_4 (l : Launch) (G : aG) (d mc ms : Nat) (P : aR → aH → Prop) (x0 : Nat) (x1 : Int64) (x3 : Int32) (h : aH) (c s : Nat) : Prop :=
  vR h x0 1 1 fun a1 =>
  vIs h a1 3 (
  vC l G mX3_cellCount (wsN mX3_cellCount) d mc ms [.ref a1] h c s (xP P) (kI fun y2 h3 c4 s5 => 
  (y2 ≤ x3 → 
    P (.inl (some (.long x1))) h3
    ) ∧ (¬ y2 ≤ x3 → 
    vR h3 x0 1 2 fun a7 =>
    vIs h3 a7 5 (
    vC l G mX5_isSettled (wsN mX5_isSettled) d mc ms [.ref a7, .int x3] h3 c4 s5 (xP P) (kI fun y8 h9 c10 s11 => 
    ∀ v13 : Int64, v13 = (x1 ||| (if y8 = 0 then (0 : Int64) else (1 : Int64) <<< (x3.toInt64 &&& 63))) →
    T_X1_settled_4 l G d mc ms P x0 v13 (x3 + 1) h9 c10 s11))
    )))
set_option maxHeartbeats 4000000 in
theorem A_X1_settled_4 {l : Launch} {G : aG} {d mc ms : Nat} {P : aR → aH → Prop} {x0 : Nat} {x1 : Int64} {x3 : Int32} {h : aH} {c s : Nat} (hl : l.stackTraces = false) (hv : V_X1_settled_4 l G d mc ms P x0 x1 x3 h c s) : T_X1_settled_4 l G d mc ms P x0 x1 x3 h c s := by
  intro hc hs
  unfold V_X1_settled_4 at hv
  refine aw_iload_n 2 dX1_settled_4 rfl rfl ?_
  refine aw_aload_n 0 (x := x0) dX1_settled_5 rfl rfl ?_
  obtain ⟨fs, a1, he, hx, hv⟩ := hv
  refine aw_get (v := .ref a1) he rfl in_X1 1 (by decide) q435 (Or.inl rfl) hx dX1_settled_6 ?_
  obtain ⟨⟨fs, he⟩, hv⟩ := hv
  obtain ⟨d2, mc2, ms2, Q, hM, hd9, hc9, hs9, hv, hx⟩ := hv
  refine aw_callV (rest := [.int x3]) hM he rfl rfl nX3_cellCount q572 q369 q370 q121 q371 dX1_settled_9 rfl hd9 (by decide) (Nat.le_of_ble_eq_true rfl) hc9 hs9 ?_ ?_
  rotate_left
  · exact fun E h2 q => aX_out (hx E h2 q) rfl hc9 hs9
  intro v9 h3 hq
  have hv := hv v9 h3 hq
  obtain ⟨y2, rfl, hv⟩ := hv
  refine aw_eqv (pc2 := 12) (st2 := [.int y2, .int x3]) rfl rfl rfl rfl ?_
  revert hv hc9 hs9; generalize c + mc2 = c4; generalize s + ms2 = s5; intro hc9 hs9 hv
  refine aw_icmp_ge 42 dX1_settled_12 (by decide) (fun c6 => ?_) (fun c6 => ?_)
  · have hv := hv.1 c6
    refine aw_lload_n 1 dX1_settled_42 rfl rfl ?_
    exact aw_lret rfl dX1_settled_43 hv hc9 hs9
  · have hv := hv.2 c6
    refine aw_lload_n 1 dX1_settled_15 rfl rfl ?_
    refine aw_aload_n 0 (x := x0) dX1_settled_16 rfl rfl ?_
    obtain ⟨fs, a7, he, hx, hv⟩ := hv
    refine aw_get (v := .ref a7) he rfl in_X1 2 (by decide) q436 (Or.inl rfl) hx dX1_settled_17 ?_
    refine aw_iload_n 2 dX1_settled_20 rfl rfl ?_
    obtain ⟨⟨fs, he⟩, hv⟩ := hv
    obtain ⟨d2, mc2, ms2, Q, hM, hd9, hc9, hs9, hv, hx⟩ := hv
    refine aw_callV (rest := [.long x1]) hM he rfl rfl nX5_isSettled q609 q610 q611 q132 q612 dX1_settled_21 rfl hd9 (by decide) (Nat.le_of_ble_eq_true rfl) hc9 hs9 ?_ ?_
    rotate_left
    · exact fun E h2 q => aX_out (hx E h2 q) rfl hc9 hs9
    intro v9 h9 hq
    have hv := hv v9 h9 hq
    obtain ⟨y8, rfl, hv⟩ := hv
    refine aw_eqv (pc2 := 24) (st2 := [.int y8, .long x1]) rfl rfl rfl rfl ?_
    revert hv hc9 hs9; generalize c4 + mc2 = c10; generalize s5 + ms2 = s11; intro hc9 hs9 hv
    have J9 : AW l G mX1_settled d mc ms P 34 [(0, .ref x0), (1, .long x1), (3, .int x3)] [.long (if y8 = 0 then (0 : Int64) else (1 : Int64) <<< (x3.toInt64 &&& 63)), .long x1] h9 c10 s11 := by
      refine aw_lor dX1_settled_34 ?_
      refine aw_topl (fun v13 ev13 => ?_)
      have hv := hv v13 ev13
      refine aw_lstore_n (lv' := [(1, .long v13), (0, .ref x0), (3, .int x3)]) dX1_settled_35 rfl (Nat.le_of_ble_eq_true rfl) rfl ?_
      refine aw_iinc 2 (v := x3 + 1) (lv' := [(3, .int (x3 + 1)), (1, .long v13), (0, .ref x0)]) dX1_settled_36 rfl rfl (Nat.le_of_ble_eq_true rfl) rfl ?_
      refine aw_goto 4 dX1_settled_39 (by decide) ?_
      refine aw_sub [2, 1, 0] rfl ?_
      exact hv hc9 hs9
    refine aw_if_eq 33 dX1_settled_24 (by decide) (fun c12 => ?_) (fun c12 => ?_)
    · have J9 := aw_ifTL c12 J9
      refine aw_lconst (v := 0) dX1_settled_33 (by decide) ?_
      exact J9
    · have J9 := aw_ifFL c12 J9
      refine aw_lconst (v := 1) dX1_settled_27 (by decide) ?_
      refine aw_iload_n 2 dX1_settled_28 rfl rfl ?_
      refine aw_lshl dX1_settled_29 ?_
      refine aw_goto 34 dX1_settled_30 (by decide) ?_
      exact J9
def V_X1_settled_0 (l : Launch) (G : aG) (d mc ms : Nat) (P : aR → aH → Prop) (x0 : Nat) (h : aH) : Prop :=
  T_X1_settled_4 l G d mc ms P x0 0 0 h 0 0
set_option maxHeartbeats 4000000 in
theorem A_X1_settled {l : Launch} {G : aG} {d mc ms : Nat} {P : aR → aH → Prop} {x0 : Nat} {h : aH} (hl : l.stackTraces = false) (hv : V_X1_settled_0 l G d mc ms P x0 h) : aC l G mX1_settled (wsN mX1_settled) d mc ms [.ref x0] h P := by
  refine aC_ofF (M := mX1_settled) rfl pX1_settled (Nat.le_of_ble_eq_true rfl) hl ?_
  refine aw_eqv (lv2 := [(0, .ref x0)]) rfl rfl rfl rfl ?_
  unfold V_X1_settled_0 at hv
  refine aw_lconst (v := 0) dX1_settled_0 (by decide) ?_
  refine aw_lstore_n (lv' := [(1, .long 0), (0, .ref x0)]) dX1_settled_1 rfl (Nat.le_of_ble_eq_true rfl) rfl ?_
  refine aw_iconst (v := 0) dX1_settled_2 (by decide) ?_
  refine aw_istore_n (lv' := [(3, .int 0), (1, .long 0), (0, .ref x0)]) dX1_settled_3 rfl (Nat.le_of_ble_eq_true rfl) rfl ?_
  refine aw_sub [2, 1, 0] rfl ?_
  exact hv (Nat.zero_le _) (Nat.zero_le _)
def V_X1_isBroken_0 (l : Launch) (G : aG) (d mc ms : Nat) (P : aR → aH → Prop) (x0 : Nat) (h : aH) : Prop :=
  vR h x0 1 2 fun a1 =>
  vIs h a1 5 (
  vC l G mX5_isBroken (wsN mX5_isBroken) d mc ms [.ref a1] h 0 0 (xP P) (kI fun y2 h3 c4 s5 => 
  vB y2 ∧ P (.inl (some (.int y2))) h3))
set_option maxHeartbeats 4000000 in
theorem A_X1_isBroken {l : Launch} {G : aG} {d mc ms : Nat} {P : aR → aH → Prop} {x0 : Nat} {h : aH} (hl : l.stackTraces = false) (hv : V_X1_isBroken_0 l G d mc ms P x0 h) : aC l G mX1_isBroken (wsN mX1_isBroken) d mc ms [.ref x0] h P := by
  refine aC_ofF (M := mX1_isBroken) rfl pX1_isBroken (Nat.le_of_ble_eq_true rfl) hl ?_
  refine aw_eqv (lv2 := [(0, .ref x0)]) rfl rfl rfl rfl ?_
  unfold V_X1_isBroken_0 at hv
  refine aw_aload_n 0 (x := x0) dX1_isBroken_0 rfl rfl ?_
  obtain ⟨fs, a1, he, hx, hv⟩ := hv
  refine aw_get (v := .ref a1) he rfl in_X1 2 (by decide) q436 (Or.inl rfl) hx dX1_isBroken_1 ?_
  obtain ⟨⟨fs, he⟩, hv⟩ := hv
  obtain ⟨d2, mc2, ms2, Q, hM, hd9, hc9, hs9, hv, hx⟩ := hv
  refine aw_callV (rest := []) hM he rfl rfl nX5_isBroken q618 q619 q620 q132 q621 dX1_isBroken_4 rfl hd9 (by decide) (Nat.le_of_ble_eq_true rfl) hc9 hs9 ?_ ?_
  rotate_left
  · exact fun E h2 q => aX_out (hx E h2 q) rfl hc9 hs9
  intro v9 h3 hq
  have hv := hv v9 h3 hq
  obtain ⟨y2, rfl, hv⟩ := hv
  refine aw_eqv (pc2 := 7) (st2 := [.int y2]) rfl rfl rfl rfl ?_
  revert hv hc9 hs9; generalize 0 + mc2 = c4; generalize 0 + ms2 = s5; intro hc9 hs9 hv
  obtain ⟨z6, hv⟩ := hv
  exact aw_zret rfl z6.nar dX1_isBroken_7 hv hc9 hs9
def V_X1_isSolved_0 (l : Launch) (G : aG) (d mc ms : Nat) (P : aR → aH → Prop) (x0 : Nat) (h : aH) : Prop :=
  vR h x0 1 2 fun a1 =>
  vIs h a1 5 (
  vC l G mX5_isSolved (wsN mX5_isSolved) d mc ms [.ref a1] h 0 0 (xP P) (kI fun y2 h3 c4 s5 => 
  vB y2 ∧ P (.inl (some (.int y2))) h3))
set_option maxHeartbeats 4000000 in
theorem A_X1_isSolved {l : Launch} {G : aG} {d mc ms : Nat} {P : aR → aH → Prop} {x0 : Nat} {h : aH} (hl : l.stackTraces = false) (hv : V_X1_isSolved_0 l G d mc ms P x0 h) : aC l G mX1_isSolved (wsN mX1_isSolved) d mc ms [.ref x0] h P := by
  refine aC_ofF (M := mX1_isSolved) rfl pX1_isSolved (Nat.le_of_ble_eq_true rfl) hl ?_
  refine aw_eqv (lv2 := [(0, .ref x0)]) rfl rfl rfl rfl ?_
  unfold V_X1_isSolved_0 at hv
  refine aw_aload_n 0 (x := x0) dX1_isSolved_0 rfl rfl ?_
  obtain ⟨fs, a1, he, hx, hv⟩ := hv
  refine aw_get (v := .ref a1) he rfl in_X1 2 (by decide) q436 (Or.inl rfl) hx dX1_isSolved_1 ?_
  obtain ⟨⟨fs, he⟩, hv⟩ := hv
  obtain ⟨d2, mc2, ms2, Q, hM, hd9, hc9, hs9, hv, hx⟩ := hv
  refine aw_callV (rest := []) hM he rfl rfl nX5_isSolved q674 q675 q676 q132 q677 dX1_isSolved_4 rfl hd9 (by decide) (Nat.le_of_ble_eq_true rfl) hc9 hs9 ?_ ?_
  rotate_left
  · exact fun E h2 q => aX_out (hx E h2 q) rfl hc9 hs9
  intro v9 h3 hq
  have hv := hv v9 h3 hq
  obtain ⟨y2, rfl, hv⟩ := hv
  refine aw_eqv (pc2 := 7) (st2 := [.int y2]) rfl rfl rfl rfl ?_
  revert hv hc9 hs9; generalize 0 + mc2 = c4; generalize 0 + ms2 = s5; intro hc9 hs9 hv
  obtain ⟨z6, hv⟩ := hv
  exact aw_zret rfl z6.nar dX1_isSolved_7 hv hc9 hs9
def V_X1_brokenLines_0 (l : Launch) (G : aG) (d mc ms : Nat) (P : aR → aH → Prop) (x0 : Nat) (h : aH) : Prop :=
  vR h x0 1 2 fun a1 =>
  vIs h a1 5 (
  vC l G mX5_brokenLines (wsN mX5_brokenLines) d mc ms [.ref a1] h 0 0 (xP P) (kI fun y2 h3 c4 s5 => 
  P (.inl (some (.int y2))) h3))
set_option maxHeartbeats 4000000 in
theorem A_X1_brokenLines {l : Launch} {G : aG} {d mc ms : Nat} {P : aR → aH → Prop} {x0 : Nat} {h : aH} (hl : l.stackTraces = false) (hv : V_X1_brokenLines_0 l G d mc ms P x0 h) : aC l G mX1_brokenLines (wsN mX1_brokenLines) d mc ms [.ref x0] h P := by
  refine aC_ofF (M := mX1_brokenLines) rfl pX1_brokenLines (Nat.le_of_ble_eq_true rfl) hl ?_
  refine aw_eqv (lv2 := [(0, .ref x0)]) rfl rfl rfl rfl ?_
  unfold V_X1_brokenLines_0 at hv
  refine aw_aload_n 0 (x := x0) dX1_brokenLines_0 rfl rfl ?_
  obtain ⟨fs, a1, he, hx, hv⟩ := hv
  refine aw_get (v := .ref a1) he rfl in_X1 2 (by decide) q436 (Or.inl rfl) hx dX1_brokenLines_1 ?_
  obtain ⟨⟨fs, he⟩, hv⟩ := hv
  obtain ⟨d2, mc2, ms2, Q, hM, hd9, hc9, hs9, hv, hx⟩ := hv
  refine aw_callV (rest := []) hM he rfl rfl nX5_brokenLines q684 q685 q686 q132 q687 dX1_brokenLines_4 rfl hd9 (by decide) (Nat.le_of_ble_eq_true rfl) hc9 hs9 ?_ ?_
  rotate_left
  · exact fun E h2 q => aX_out (hx E h2 q) rfl hc9 hs9
  intro v9 h3 hq
  have hv := hv v9 h3 hq
  obtain ⟨y2, rfl, hv⟩ := hv
  refine aw_eqv (pc2 := 7) (st2 := [.int y2]) rfl rfl rfl rfl ?_
  revert hv hc9 hs9; generalize 0 + mc2 = c4; generalize 0 + ms2 = s5; intro hc9 hs9 hv
  exact aw_iret rfl dX1_brokenLines_7 hv hc9 hs9
def V_X1_nextStep_0 (l : Launch) (G : aG) (d mc ms : Nat) (P : aR → aH → Prop) (x0 : Nat) (h : aH) : Prop :=
  vR h x0 1 2 fun a1 =>
  vR h x0 1 3 fun a2 =>
  vIs h a1 5 (
  vC l G mX5_next (wsN mX5_next) d mc ms [.ref a1, .int 6, .ref a2] h 0 0 (xP P) (kI fun y3 h4 c5 s6 => 
  P (.inl (some (.int y3))) h4))
set_option maxHeartbeats 4000000 in
theorem A_X1_nextStep {l : Launch} {G : aG} {d mc ms : Nat} {P : aR → aH → Prop} {x0 : Nat} {h : aH} (hl : l.stackTraces = false) (hv : V_X1_nextStep_0 l G d mc ms P x0 h) : aC l G mX1_nextStep (wsN mX1_nextStep) d mc ms [.ref x0] h P := by
  refine aC_ofF (M := mX1_nextStep) rfl pX1_nextStep (Nat.le_of_ble_eq_true rfl) hl ?_
  refine aw_eqv (lv2 := [(0, .ref x0)]) rfl rfl rfl rfl ?_
  unfold V_X1_nextStep_0 at hv
  refine aw_aload_n 0 (x := x0) dX1_nextStep_0 rfl rfl ?_
  obtain ⟨fs, a1, he, hx, hv⟩ := hv
  refine aw_get (v := .ref a1) he rfl in_X1 2 (by decide) q436 (Or.inl rfl) hx dX1_nextStep_1 ?_
  refine aw_bipush (v := 6) dX1_nextStep_4 (by decide) ?_
  refine aw_aload_n 0 (x := x0) dX1_nextStep_6 rfl rfl ?_
  obtain ⟨fs, a2, he, hx, hv⟩ := hv
  refine aw_get (v := .ref a2) he rfl in_X1 3 (by decide) q437 (Or.inl rfl) hx dX1_nextStep_7 ?_
  obtain ⟨⟨fs, he⟩, hv⟩ := hv
  obtain ⟨d2, mc2, ms2, Q, hM, hd9, hc9, hs9, hv, hx⟩ := hv
  refine aw_callV (rest := []) hM he rfl rfl nX5_next q692 q693 q694 q132 q695 dX1_nextStep_10 rfl hd9 (by decide) (Nat.le_of_ble_eq_true rfl) hc9 hs9 ?_ ?_
  rotate_left
  · exact fun E h2 q => aX_out (hx E h2 q) rfl hc9 hs9
  intro v9 h4 hq
  have hv := hv v9 h4 hq
  obtain ⟨y3, rfl, hv⟩ := hv
  refine aw_eqv (pc2 := 13) (st2 := [.int y3]) rfl rfl rfl rfl ?_
  revert hv hc9 hs9; generalize 0 + mc2 = c5; generalize 0 + ms2 = s6; intro hc9 hs9 hv
  exact aw_iret rfl dX1_nextStep_13 hv hc9 hs9
def T_X1_hardness_14 (l : Launch) (G : aG) (d mc ms : Nat) (P : aR → aH → Prop) (x0 : Nat) (x1 : Int32) (h : aH) (c s : Nat) : Prop := c ≤ mc → s ≤ ms → AW l G mX1_hardness d mc ms P 14 [(0, .ref x0), (1, .int x1)] [] h c s
def V_X1_hardness_14 (l : Launch) (G : aG) (d mc ms : Nat) (P : aR → aH → Prop) (x0 : Nat) (x1 : Int32) (h : aH) (c s : Nat) : Prop :=
  (6 < x1 → 
    P (.inl (some (.int 7))) h
    ) ∧ (¬ 6 < x1 → 
    vR h x0 1 4 fun a2 =>
    vR h x0 1 2 fun a3 =>
    vIs h a2 5 (
    vC l G mX5_setThings (wsN mX5_setThings) d mc ms [.ref a2, .ref a3] h c s (xP P) (kV fun h5 c6 s7 => 
    vR h5 x0 1 4 fun a8 =>
    vR h5 x0 1 3 fun a9 =>
    vIs h5 a8 5 (
    vC l G mX5_stepAll (wsN mX5_stepAll) d mc ms [.ref a8, .int x1, .ref a9] h5 c6 s7 (xP P) (kI fun y10 h11 c12 s13 => 
    vR h11 x0 1 4 fun a14 =>
    vIs h11 a14 5 (
    vC l G mX5_isSolved (wsN mX5_isSolved) d mc ms [.ref a14] h11 c12 s13 (xP P) (kI fun y15 h16 c17 s18 => 
    (y15 = 0 → 
      T_X1_hardness_14 l G d mc ms P x0 (x1 + 1) h16 c17 s18
      ) ∧ (¬ y15 = 0 → 
      P (.inl (some (.int x1))) h16
      )))))))
    )
set_option maxHeartbeats 4000000 in
theorem A_X1_hardness_14 {l : Launch} {G : aG} {d mc ms : Nat} {P : aR → aH → Prop} {x0 : Nat} {x1 : Int32} {h : aH} {c s : Nat} (hl : l.stackTraces = false) (hv : V_X1_hardness_14 l G d mc ms P x0 x1 h c s) : T_X1_hardness_14 l G d mc ms P x0 x1 h c s := by
  intro hc hs
  unfold V_X1_hardness_14 at hv
  refine aw_iload_n 1 dX1_hardness_14 rfl rfl ?_
  refine aw_bipush (v := 6) dX1_hardness_15 (by decide) ?_
  refine aw_icmp_gt 62 dX1_hardness_17 (by decide) (fun c1 => ?_) (fun c1 => ?_)
  · have hv := hv.1 c1
    refine aw_bipush (v := 7) dX1_hardness_62 (by decide) ?_
    exact aw_iret rfl dX1_hardness_64 hv hc hs
  · have hv := hv.2 c1
    refine aw_aload_n 0 (x := x0) dX1_hardness_20 rfl rfl ?_
    obtain ⟨fs, a2, he, hx, hv⟩ := hv
    refine aw_get (v := .ref a2) he rfl in_X1 4 (by decide) q438 (Or.inl rfl) hx dX1_hardness_21 ?_
    refine aw_aload_n 0 (x := x0) dX1_hardness_24 rfl rfl ?_
    obtain ⟨fs, a3, he, hx, hv⟩ := hv
    refine aw_get (v := .ref a3) he rfl in_X1 2 (by decide) q436 (Or.inl rfl) hx dX1_hardness_25 ?_
    obtain ⟨⟨fs, he⟩, hv⟩ := hv
    obtain ⟨d2, mc2, ms2, Q, hM, hd9, hc9, hs9, hv, hx⟩ := hv
    refine aw_callV (rest := []) hM he rfl rfl nX5_setThings q571 q513 q514 q132 q515 dX1_hardness_28 rfl hd9 (by decide) (Nat.le_of_ble_eq_true rfl) hc9 hs9 ?_ ?_
    rotate_left
    · exact fun E h2 q => aX_out (hx E h2 q) rfl hc9 hs9
    intro v9 h5 hq
    have hv := hv v9 h5 hq
    obtain ⟨rfl, hv⟩ := hv
    refine aw_eqv (pc2 := 31) (st2 := []) rfl rfl rfl rfl ?_
    revert hv hc9 hs9; generalize c + mc2 = c6; generalize s + ms2 = s7; intro hc9 hs9 hv
    refine aw_aload_n 0 (x := x0) dX1_hardness_31 rfl rfl ?_
    obtain ⟨fs, a8, he, hx, hv⟩ := hv
    refine aw_get (v := .ref a8) he rfl in_X1 4 (by decide) q438 (Or.inl rfl) hx dX1_hardness_32 ?_
    refine aw_iload_n 1 dX1_hardness_35 rfl rfl ?_
    refine aw_aload_n 0 (x := x0) dX1_hardness_36 rfl rfl ?_
    obtain ⟨fs, a9, he, hx, hv⟩ := hv
    refine aw_get (v := .ref a9) he rfl in_X1 3 (by decide) q437 (Or.inl rfl) hx dX1_hardness_37 ?_
    obtain ⟨⟨fs, he⟩, hv⟩ := hv
    obtain ⟨d2, mc2, ms2, Q, hM, hd9, hc9, hs9, hv, hx⟩ := hv
    refine aw_callV (rest := []) hM he rfl rfl nX5_stepAll q763 q764 q765 q132 q766 dX1_hardness_40 rfl hd9 (by decide) (Nat.le_of_ble_eq_true rfl) hc9 hs9 ?_ ?_
    rotate_left
    · exact fun E h2 q => aX_out (hx E h2 q) rfl hc9 hs9
    intro v9 h11 hq
    have hv := hv v9 h11 hq
    obtain ⟨y10, rfl, hv⟩ := hv
    refine aw_eqv (pc2 := 43) (st2 := [.int y10]) rfl rfl rfl rfl ?_
    revert hv hc9 hs9; generalize c6 + mc2 = c12; generalize s7 + ms2 = s13; intro hc9 hs9 hv
    refine aw_istore_n (lv' := [(2, .int y10), (0, .ref x0), (1, .int x1)]) dX1_hardness_43 rfl (Nat.le_of_ble_eq_true rfl) rfl ?_
    refine aw_aload_n 1 (x := x0) dX1_hardness_44 rfl rfl ?_
    obtain ⟨fs, a14, he, hx, hv⟩ := hv
    refine aw_get (v := .ref a14) he rfl in_X1 4 (by decide) q438 (Or.inl rfl) hx dX1_hardness_45 ?_
    obtain ⟨⟨fs, he⟩, hv⟩ := hv
    obtain ⟨d2, mc2, ms2, Q, hM, hd9, hc9, hs9, hv, hx⟩ := hv
    refine aw_callV (rest := []) hM he rfl rfl nX5_isSolved q674 q675 q676 q132 q677 dX1_hardness_48 rfl hd9 (by decide) (Nat.le_of_ble_eq_true rfl) hc9 hs9 ?_ ?_
    rotate_left
    · exact fun E h2 q => aX_out (hx E h2 q) rfl hc9 hs9
    intro v9 h16 hq
    have hv := hv v9 h16 hq
    obtain ⟨y15, rfl, hv⟩ := hv
    refine aw_eqv (pc2 := 51) (st2 := [.int y15]) rfl rfl rfl rfl ?_
    revert hv hc9 hs9; generalize c12 + mc2 = c17; generalize s13 + ms2 = s18; intro hc9 hs9 hv
    refine aw_if_eq 56 dX1_hardness_51 (by decide) (fun c19 => ?_) (fun c19 => ?_)
    · have hv := hv.1 c19
      refine aw_iinc 2 (v := x1 + 1) (lv' := [(1, .int (x1 + 1)), (2, .int y10), (0, .ref x0)]) dX1_hardness_56 rfl rfl (Nat.le_of_ble_eq_true rfl) rfl ?_
      refine aw_goto 14 dX1_hardness_59 (by decide) ?_
      refine aw_sub [2, 0] rfl ?_
      exact hv hc9 hs9
    · have hv := hv.2 c19
      refine aw_iload_n 2 dX1_hardness_54 rfl rfl ?_
      exact aw_iret rfl dX1_hardness_55 hv hc9 hs9
def V_X1_hardness_0 (l : Launch) (G : aG) (d mc ms : Nat) (P : aR → aH → Prop) (x0 : Nat) (h : aH) : Prop :=
  vR h x0 1 2 fun a20 =>
  vIs h a20 5 (
  vC l G mX5_isSolved (wsN mX5_isSolved) d mc ms [.ref a20] h 0 0 (xP P) (kI fun y21 h22 c23 s24 => 
  (y21 = 0 → 
    T_X1_hardness_14 l G d mc ms P x0 1 h22 c23 s24
    ) ∧ (¬ y21 = 0 → 
    P (.inl (some (.int 0))) h22
    )))
set_option maxHeartbeats 4000000 in
theorem A_X1_hardness {l : Launch} {G : aG} {d mc ms : Nat} {P : aR → aH → Prop} {x0 : Nat} {h : aH} (hl : l.stackTraces = false) (hv : V_X1_hardness_0 l G d mc ms P x0 h) : aC l G mX1_hardness (wsN mX1_hardness) d mc ms [.ref x0] h P := by
  refine aC_ofF (M := mX1_hardness) rfl pX1_hardness (Nat.le_of_ble_eq_true rfl) hl ?_
  refine aw_eqv (lv2 := [(0, .ref x0)]) rfl rfl rfl rfl ?_
  unfold V_X1_hardness_0 at hv
  refine aw_aload_n 0 (x := x0) dX1_hardness_0 rfl rfl ?_
  obtain ⟨fs, a20, he, hx, hv⟩ := hv
  refine aw_get (v := .ref a20) he rfl in_X1 2 (by decide) q436 (Or.inl rfl) hx dX1_hardness_1 ?_
  obtain ⟨⟨fs, he⟩, hv⟩ := hv
  obtain ⟨d2, mc2, ms2, Q, hM, hd9, hc9, hs9, hv, hx⟩ := hv
  refine aw_callV (rest := []) hM he rfl rfl nX5_isSolved q674 q675 q676 q132 q677 dX1_hardness_4 rfl hd9 (by decide) (Nat.le_of_ble_eq_true rfl) hc9 hs9 ?_ ?_
  rotate_left
  · exact fun E h2 q => aX_out (hx E h2 q) rfl hc9 hs9
  intro v9 h22 hq
  have hv := hv v9 h22 hq
  obtain ⟨y21, rfl, hv⟩ := hv
  refine aw_eqv (pc2 := 7) (st2 := [.int y21]) rfl rfl rfl rfl ?_
  revert hv hc9 hs9; generalize 0 + mc2 = c23; generalize 0 + ms2 = s24; intro hc9 hs9 hv
  refine aw_if_eq 12 dX1_hardness_7 (by decide) (fun c25 => ?_) (fun c25 => ?_)
  · have hv := hv.1 c25
    refine aw_iconst (v := 1) dX1_hardness_12 (by decide) ?_
    refine aw_istore_n (lv' := [(1, .int 1), (0, .ref x0)]) dX1_hardness_13 rfl (Nat.le_of_ble_eq_true rfl) rfl ?_
    refine aw_sub [1, 0] rfl ?_
    exact hv hc9 hs9
  · have hv := hv.2 c25
    refine aw_iconst (v := 0) dX1_hardness_10 (by decide) ?_
    exact aw_iret rfl dX1_hardness_11 hv hc9 hs9
def V_X1_found_0 (l : Launch) (G : aG) (d mc ms : Nat) (P : aR → aH → Prop) (x0 : Nat) (x1 : Int32) (x2 : Int32) (h : aH) : Prop :=
  vR h x0 1 4 fun a1 =>
  vR h x0 1 2 fun a2 =>
  vIs h a1 5 (
  vC l G mX5_setThings (wsN mX5_setThings) d mc ms [.ref a1, .ref a2] h 0 0 (xP P) (kV fun h4 c5 s6 => 
  vR h4 x0 1 4 fun a7 =>
  vIs h4 a7 5 (
  vC l G mX5_solutions (wsN mX5_solutions) d mc ms [.ref a7, .int x1, .int x2] h4 c5 s6 (xP P) (kR fun a8 h9 c10 s11 => 
  P (.inl (some (.ref a8))) h9))))
set_option maxHeartbeats 4000000 in
theorem A_X1_found {l : Launch} {G : aG} {d mc ms : Nat} {P : aR → aH → Prop} {x0 : Nat} {x1 : Int32} {x2 : Int32} {h : aH} (hl : l.stackTraces = false) (hv : V_X1_found_0 l G d mc ms P x0 x1 x2 h) : aC l G mX1_found (wsN mX1_found) d mc ms [.ref x0, .int x1, .int x2] h P := by
  refine aC_ofF (M := mX1_found) rfl pX1_found (Nat.le_of_ble_eq_true rfl) hl ?_
  refine aw_eqv (lv2 := [(0, .ref x0), (1, .int x1), (2, .int x2)]) rfl rfl rfl rfl ?_
  unfold V_X1_found_0 at hv
  refine aw_aload_n 0 (x := x0) dX1_found_0 rfl rfl ?_
  obtain ⟨fs, a1, he, hx, hv⟩ := hv
  refine aw_get (v := .ref a1) he rfl in_X1 4 (by decide) q438 (Or.inl rfl) hx dX1_found_1 ?_
  refine aw_aload_n 0 (x := x0) dX1_found_4 rfl rfl ?_
  obtain ⟨fs, a2, he, hx, hv⟩ := hv
  refine aw_get (v := .ref a2) he rfl in_X1 2 (by decide) q436 (Or.inl rfl) hx dX1_found_5 ?_
  obtain ⟨⟨fs, he⟩, hv⟩ := hv
  obtain ⟨d2, mc2, ms2, Q, hM, hd9, hc9, hs9, hv, hx⟩ := hv
  refine aw_callV (rest := []) hM he rfl rfl nX5_setThings q571 q513 q514 q132 q515 dX1_found_8 rfl hd9 (by decide) (Nat.le_of_ble_eq_true rfl) hc9 hs9 ?_ ?_
  rotate_left
  · exact fun E h2 q => aX_out (hx E h2 q) rfl hc9 hs9
  intro v9 h4 hq
  have hv := hv v9 h4 hq
  obtain ⟨rfl, hv⟩ := hv
  refine aw_eqv (pc2 := 11) (st2 := []) rfl rfl rfl rfl ?_
  revert hv hc9 hs9; generalize 0 + mc2 = c5; generalize 0 + ms2 = s6; intro hc9 hs9 hv
  refine aw_aload_n 0 (x := x0) dX1_found_11 rfl rfl ?_
  obtain ⟨fs, a7, he, hx, hv⟩ := hv
  refine aw_get (v := .ref a7) he rfl in_X1 4 (by decide) q438 (Or.inl rfl) hx dX1_found_12 ?_
  refine aw_iload_n 1 dX1_found_15 rfl rfl ?_
  refine aw_iload_n 2 dX1_found_16 rfl rfl ?_
  obtain ⟨⟨fs, he⟩, hv⟩ := hv
  obtain ⟨d2, mc2, ms2, Q, hM, hd9, hc9, hs9, hv, hx⟩ := hv
  refine aw_callV (rest := []) hM he rfl rfl nX5_solutions q780 q781 q782 q132 q783 dX1_found_17 rfl hd9 (by decide) (Nat.le_of_ble_eq_true rfl) hc9 hs9 ?_ ?_
  rotate_left
  · exact fun E h2 q => aX_out (hx E h2 q) rfl hc9 hs9
  intro v9 h9 hq
  have hv := hv v9 h9 hq
  obtain ⟨a8, rfl, hv⟩ := hv
  refine aw_eqv (pc2 := 20) (st2 := [.ref a8]) rfl rfl rfl rfl ?_
  revert hv hc9 hs9; generalize c5 + mc2 = c10; generalize s6 + ms2 = s11; intro hc9 hs9 hv
  exact aw_aret rfl (Or.inl ⟨_, rfl⟩) (Or.inr ⟨_, rfl⟩) dX1_found_20 hv hc9 hs9
def V_X1_solutionCount_0 (l : Launch) (G : aG) (d mc ms : Nat) (P : aR → aH → Prop) (x0 : Nat) (h : aH) : Prop :=
  vIs h x0 1 (
  vC l G mX1_found (wsN mX1_found) d mc ms [.ref x0, .int 200, .int 0] h 0 0 (xP P) (kR fun a1 h2 c3 s4 => 
  vI h2 a1 7 2 fun y5 =>
  P (.inl (some (.int y5))) h2))
set_option maxHeartbeats 4000000 in
theorem A_X1_solutionCount {l : Launch} {G : aG} {d mc ms : Nat} {P : aR → aH → Prop} {x0 : Nat} {h : aH} (hl : l.stackTraces = false) (hv : V_X1_solutionCount_0 l G d mc ms P x0 h) : aC l G mX1_solutionCount (wsN mX1_solutionCount) d mc ms [.ref x0] h P := by
  refine aC_ofF (M := mX1_solutionCount) rfl pX1_solutionCount (Nat.le_of_ble_eq_true rfl) hl ?_
  refine aw_eqv (lv2 := [(0, .ref x0)]) rfl rfl rfl rfl ?_
  unfold V_X1_solutionCount_0 at hv
  refine aw_aload_n 0 (x := x0) dX1_solutionCount_0 rfl rfl ?_
  refine aw_sipush (v := 200) dX1_solutionCount_1 (by decide) ?_
  refine aw_iconst (v := 0) dX1_solutionCount_4 (by decide) ?_
  obtain ⟨⟨fs, he⟩, hv⟩ := hv
  obtain ⟨d2, mc2, ms2, Q, hM, hd9, hc9, hs9, hv, hx⟩ := hv
  refine aw_callV (rest := []) hM he rfl rfl nX1_found q776 q778 qs25 q119 q779 dX1_solutionCount_5 rfl hd9 (by decide) (Nat.le_of_ble_eq_true rfl) hc9 hs9 ?_ ?_
  rotate_left
  · exact fun E h2 q => aX_out (hx E h2 q) rfl hc9 hs9
  intro v9 h2 hq
  have hv := hv v9 h2 hq
  obtain ⟨a1, rfl, hv⟩ := hv
  refine aw_eqv (pc2 := 8) (st2 := [.ref a1]) rfl rfl rfl rfl ?_
  revert hv hc9 hs9; generalize 0 + mc2 = c3; generalize 0 + ms2 = s4; intro hc9 hs9 hv
  obtain ⟨fs, y5, he, hx, hv⟩ := hv
  refine aw_getN (v := .int y5) he rfl in_X8 2 (by decide) q797 (Or.inl rfl) hx dX1_solutionCount_8 ?_
  exact aw_iret rfl dX1_solutionCount_11 hv hc9 hs9
def V_X1_solutionCountByRows_0 (l : Launch) (G : aG) (d mc ms : Nat) (P : aR → aH → Prop) (x0 : Nat) (h : aH) : Prop :=
  vR h x0 1 4 fun a1 =>
  vR h x0 1 2 fun a2 =>
  vIs h a1 5 (
  vC l G mX5_setThings (wsN mX5_setThings) d mc ms [.ref a1, .ref a2] h 0 0 (xP P) (kV fun h4 c5 s6 => 
  vR h4 x0 1 4 fun a7 =>
  vIs h4 a7 5 (
  vC l G mX5_isBroken (wsN mX5_isBroken) d mc ms [.ref a7] h4 c5 s6 (xP P) (kI fun y8 h9 c10 s11 => 
  (y8 = 0 → 
    vR h9 x0 1 4 fun a13 =>
    vIs h9 a13 5 (
    vC l G mX5_countByRows (wsN mX5_countByRows) d mc ms [.ref a13, .int 0, .int 200] h9 c10 s11 (xP P) (kI fun y14 h15 c16 s17 => 
    P (.inl (some (.int y14))) h15))
    ) ∧ (¬ y8 = 0 → 
    P (.inl (some (.int 0))) h9
    )))))
set_option maxHeartbeats 4000000 in
theorem A_X1_solutionCountByRows {l : Launch} {G : aG} {d mc ms : Nat} {P : aR → aH → Prop} {x0 : Nat} {h : aH} (hl : l.stackTraces = false) (hv : V_X1_solutionCountByRows_0 l G d mc ms P x0 h) : aC l G mX1_solutionCountByRows (wsN mX1_solutionCountByRows) d mc ms [.ref x0] h P := by
  refine aC_ofF (M := mX1_solutionCountByRows) rfl pX1_solutionCountByRows (Nat.le_of_ble_eq_true rfl) hl ?_
  refine aw_eqv (lv2 := [(0, .ref x0)]) rfl rfl rfl rfl ?_
  unfold V_X1_solutionCountByRows_0 at hv
  refine aw_aload_n 0 (x := x0) dX1_solutionCountByRows_0 rfl rfl ?_
  obtain ⟨fs, a1, he, hx, hv⟩ := hv
  refine aw_get (v := .ref a1) he rfl in_X1 4 (by decide) q438 (Or.inl rfl) hx dX1_solutionCountByRows_1 ?_
  refine aw_aload_n 0 (x := x0) dX1_solutionCountByRows_4 rfl rfl ?_
  obtain ⟨fs, a2, he, hx, hv⟩ := hv
  refine aw_get (v := .ref a2) he rfl in_X1 2 (by decide) q436 (Or.inl rfl) hx dX1_solutionCountByRows_5 ?_
  obtain ⟨⟨fs, he⟩, hv⟩ := hv
  obtain ⟨d2, mc2, ms2, Q, hM, hd9, hc9, hs9, hv, hx⟩ := hv
  refine aw_callV (rest := []) hM he rfl rfl nX5_setThings q571 q513 q514 q132 q515 dX1_solutionCountByRows_8 rfl hd9 (by decide) (Nat.le_of_ble_eq_true rfl) hc9 hs9 ?_ ?_
  rotate_left
  · exact fun E h2 q => aX_out (hx E h2 q) rfl hc9 hs9
  intro v9 h4 hq
  have hv := hv v9 h4 hq
  obtain ⟨rfl, hv⟩ := hv
  refine aw_eqv (pc2 := 11) (st2 := []) rfl rfl rfl rfl ?_
  revert hv hc9 hs9; generalize 0 + mc2 = c5; generalize 0 + ms2 = s6; intro hc9 hs9 hv
  refine aw_aload_n 0 (x := x0) dX1_solutionCountByRows_11 rfl rfl ?_
  obtain ⟨fs, a7, he, hx, hv⟩ := hv
  refine aw_get (v := .ref a7) he rfl in_X1 4 (by decide) q438 (Or.inl rfl) hx dX1_solutionCountByRows_12 ?_
  obtain ⟨⟨fs, he⟩, hv⟩ := hv
  obtain ⟨d2, mc2, ms2, Q, hM, hd9, hc9, hs9, hv, hx⟩ := hv
  refine aw_callV (rest := []) hM he rfl rfl nX5_isBroken q618 q619 q620 q132 q621 dX1_solutionCountByRows_15 rfl hd9 (by decide) (Nat.le_of_ble_eq_true rfl) hc9 hs9 ?_ ?_
  rotate_left
  · exact fun E h2 q => aX_out (hx E h2 q) rfl hc9 hs9
  intro v9 h9 hq
  have hv := hv v9 h9 hq
  obtain ⟨y8, rfl, hv⟩ := hv
  refine aw_eqv (pc2 := 18) (st2 := [.int y8]) rfl rfl rfl rfl ?_
  revert hv hc9 hs9; generalize c5 + mc2 = c10; generalize s6 + ms2 = s11; intro hc9 hs9 hv
  refine aw_if_eq 25 dX1_solutionCountByRows_18 (by decide) (fun c12 => ?_) (fun c12 => ?_)
  · have hv := hv.1 c12
    refine aw_aload_n 0 (x := x0) dX1_solutionCountByRows_25 rfl rfl ?_
    obtain ⟨fs, a13, he, hx, hv⟩ := hv
    refine aw_get (v := .ref a13) he rfl in_X1 4 (by decide) q438 (Or.inl rfl) hx dX1_solutionCountByRows_26 ?_
    refine aw_iconst (v := 0) dX1_solutionCountByRows_29 (by decide) ?_
    refine aw_sipush (v := 200) dX1_solutionCountByRows_30 (by decide) ?_
    obtain ⟨⟨fs, he⟩, hv⟩ := hv
    obtain ⟨d2, mc2, ms2, Q, hM, hd9, hc9, hs9, hv, hx⟩ := hv
    refine aw_callV (rest := []) hM he rfl rfl nX5_countByRows q833 q834 q835 q132 q836 dX1_solutionCountByRows_33 rfl hd9 (by decide) (Nat.le_of_ble_eq_true rfl) hc9 hs9 ?_ ?_
    rotate_left
    · exact fun E h2 q => aX_out (hx E h2 q) rfl hc9 hs9
    intro v9 h15 hq
    have hv := hv v9 h15 hq
    obtain ⟨y14, rfl, hv⟩ := hv
    refine aw_eqv (pc2 := 36) (st2 := [.int y14]) rfl rfl rfl rfl ?_
    revert hv hc9 hs9; generalize c10 + mc2 = c16; generalize s11 + ms2 = s17; intro hc9 hs9 hv
    exact aw_iret rfl dX1_solutionCountByRows_36 hv hc9 hs9
  · have hv := hv.2 c12
    refine aw_iconst (v := 0) dX1_solutionCountByRows_21 (by decide) ?_
    refine aw_goto 36 dX1_solutionCountByRows_22 (by decide) ?_
    exact aw_iret rfl dX1_solutionCountByRows_36 hv hc9 hs9
def V_X1_sameInAll_0 (l : Launch) (G : aG) (d mc ms : Nat) (P : aR → aH → Prop) (x0 : Nat) (h : aH) : Prop :=
  vIs h x0 1 (
  vC l G mX1_found (wsN mX1_found) d mc ms [.ref x0, .int 200, .int 0] h 0 0 (xP P) (kR fun a1 h2 c3 s4 => 
  vR h2 x0 1 1 fun a5 =>
  vIs h2 a5 3 (
  vC l G mX3_cellCount (wsN mX3_cellCount) d mc ms [.ref a5] h2 c3 s4 (xP P) (kI fun y6 h7 c8 s9 => 
  ∀ v10 : Int32, v10 = (((1 : Int32) <<< (y6 &&& 31)) - (1 : Int32)) →
  vI h7 a1 7 2 fun y11 =>
  (y11 = 0 → 
    P (.inl (some (.long 0))) h7
    ) ∧ (¬ y11 = 0 → 
    vI h7 a1 7 2 fun y13 =>
    (¬ y13 = 200 → 
      vI h7 a1 7 3 fun y15 =>
      P (.inl (some (.long ((y15 &&& v10).toInt64)))) h7
      ) ∧ (y13 = 200 → 
      P (.inl (some (.long 0))) h7
      )
    )))))
set_option maxHeartbeats 4000000 in
theorem A_X1_sameInAll {l : Launch} {G : aG} {d mc ms : Nat} {P : aR → aH → Prop} {x0 : Nat} {h : aH} (hl : l.stackTraces = false) (hv : V_X1_sameInAll_0 l G d mc ms P x0 h) : aC l G mX1_sameInAll (wsN mX1_sameInAll) d mc ms [.ref x0] h P := by
  refine aC_ofF (M := mX1_sameInAll) rfl pX1_sameInAll (Nat.le_of_ble_eq_true rfl) hl ?_
  refine aw_eqv (lv2 := [(0, .ref x0)]) rfl rfl rfl rfl ?_
  unfold V_X1_sameInAll_0 at hv
  refine aw_aload_n 0 (x := x0) dX1_sameInAll_0 rfl rfl ?_
  refine aw_sipush (v := 200) dX1_sameInAll_1 (by decide) ?_
  refine aw_iconst (v := 0) dX1_sameInAll_4 (by decide) ?_
  obtain ⟨⟨fs, he⟩, hv⟩ := hv
  obtain ⟨d2, mc2, ms2, Q, hM, hd9, hc9, hs9, hv, hx⟩ := hv
  refine aw_callV (rest := []) hM he rfl rfl nX1_found q776 q778 qs25 q119 q779 dX1_sameInAll_5 rfl hd9 (by decide) (Nat.le_of_ble_eq_true rfl) hc9 hs9 ?_ ?_
  rotate_left
  · exact fun E h2 q => aX_out (hx E h2 q) rfl hc9 hs9
  intro v9 h2 hq
  have hv := hv v9 h2 hq
  obtain ⟨a1, rfl, hv⟩ := hv
  refine aw_eqv (pc2 := 8) (st2 := [.ref a1]) rfl rfl rfl rfl ?_
  revert hv hc9 hs9; generalize 0 + mc2 = c3; generalize 0 + ms2 = s4; intro hc9 hs9 hv
  refine aw_astore_n (lv' := [(1, .ref a1), (0, .ref x0)]) dX1_sameInAll_8 rfl (Nat.le_of_ble_eq_true rfl) rfl ?_
  refine aw_iconst (v := 1) dX1_sameInAll_9 (by decide) ?_
  refine aw_aload_n 1 (x := x0) dX1_sameInAll_10 rfl rfl ?_
  obtain ⟨fs, a5, he, hx, hv⟩ := hv
  refine aw_get (v := .ref a5) he rfl in_X1 1 (by decide) q435 (Or.inl rfl) hx dX1_sameInAll_11 ?_
  obtain ⟨⟨fs, he⟩, hv⟩ := hv
  obtain ⟨d2, mc2, ms2, Q, hM, hd9, hc9, hs9, hv, hx⟩ := hv
  refine aw_callV (rest := [.int 1]) hM he rfl rfl nX3_cellCount q572 q369 q370 q121 q371 dX1_sameInAll_14 rfl hd9 (by decide) (Nat.le_of_ble_eq_true rfl) hc9 hs9 ?_ ?_
  rotate_left
  · exact fun E h2 q => aX_out (hx E h2 q) rfl hc9 hs9
  intro v9 h7 hq
  have hv := hv v9 h7 hq
  obtain ⟨y6, rfl, hv⟩ := hv
  refine aw_eqv (pc2 := 17) (st2 := [.int y6, .int 1]) rfl rfl rfl rfl ?_
  revert hv hc9 hs9; generalize c3 + mc2 = c8; generalize s4 + ms2 = s9; intro hc9 hs9 hv
  refine aw_ishl dX1_sameInAll_17 ?_
  refine aw_iconst (v := 1) dX1_sameInAll_18 (by decide) ?_
  refine aw_isub dX1_sameInAll_19 ?_
  refine aw_topi (fun v10 ev10 => ?_)
  have hv := hv v10 ev10
  refine aw_istore_n (lv' := [(2, .int v10), (1, .ref a1), (0, .ref x0)]) dX1_sameInAll_20 rfl (Nat.le_of_ble_eq_true rfl) rfl ?_
  refine aw_aload_n 1 (x := a1) dX1_sameInAll_21 rfl rfl ?_
  obtain ⟨fs, y11, he, hx, hv⟩ := hv
  refine aw_getN (v := .int y11) he rfl in_X8 2 (by decide) q797 (Or.inl rfl) hx dX1_sameInAll_22 ?_
  refine aw_if_eq 38 dX1_sameInAll_25 (by decide) (fun c12 => ?_) (fun c12 => ?_)
  · have hv := hv.1 c12
    refine aw_lconst (v := 0) dX1_sameInAll_38 (by decide) ?_
    refine aw_goto 49 dX1_sameInAll_39 (by decide) ?_
    exact aw_lret rfl dX1_sameInAll_49 hv hc9 hs9
  · have hv := hv.2 c12
    refine aw_aload_n 1 (x := a1) dX1_sameInAll_28 rfl rfl ?_
    obtain ⟨fs, y13, he, hx, hv⟩ := hv
    refine aw_getN (v := .int y13) he rfl in_X8 2 (by decide) q797 (Or.inl rfl) hx dX1_sameInAll_29 ?_
    refine aw_sipush (v := 200) dX1_sameInAll_32 (by decide) ?_
    refine aw_icmp_ne 42 dX1_sameInAll_35 (by decide) (fun c14 => ?_) (fun c14 => ?_)
    · have hv := hv.1 c14
      refine aw_aload_n 1 (x := a1) dX1_sameInAll_42 rfl rfl ?_
      obtain ⟨fs, y15, he, hx, hv⟩ := hv
      refine aw_getN (v := .int y15) he rfl in_X8 3 (by decide) q799 (Or.inl rfl) hx dX1_sameInAll_43 ?_
      refine aw_iload_n 0 dX1_sameInAll_46 rfl rfl ?_
      refine aw_iand dX1_sameInAll_47 ?_
      refine aw_i2l dX1_sameInAll_48 ?_
      exact aw_lret rfl dX1_sameInAll_49 hv hc9 hs9
    · have hv := hv.2 c14
      refine aw_lconst (v := 0) dX1_sameInAll_38 (by decide) ?_
      refine aw_goto 49 dX1_sameInAll_39 (by decide) ?_
      exact aw_lret rfl dX1_sameInAll_49 hv hc9 hs9
def V_X1_crossedShare_0 (l : Launch) (G : aG) (d mc ms : Nat) (P : aR → aH → Prop) (x0 : Nat) (h : aH) : Prop :=
  vR h x0 1 2 fun a1 =>
  vIs h a1 5 (
  vC l G mX5_crossedOut (wsN mX5_crossedOut) d mc ms [.ref a1] h 0 0 (xP P) (kI fun y2 h3 c4 s5 => 
  vR h3 x0 1 1 fun a6 =>
  vIs h3 a6 3 (
  vC l G mX3_cellCount (wsN mX3_cellCount) d mc ms [.ref a6] h3 c4 s5 (xP P) (kI fun y7 h8 c9 s10 => 
  vR h8 x0 1 1 fun a11 =>
  vI h8 a11 3 5 fun y12 =>
  vDn (FP.ddiv (FP.i2d y2) (FP.i2d (y7 * (y12 + (1 : Int32))))) (
  P (.inl (some (.double (FP.ddiv (FP.i2d y2) (FP.i2d (y7 * (y12 + (1 : Int32)))))))) h8)))))
set_option maxHeartbeats 4000000 in
theorem A_X1_crossedShare {l : Launch} {G : aG} {d mc ms : Nat} {P : aR → aH → Prop} {x0 : Nat} {h : aH} (hl : l.stackTraces = false) (hv : V_X1_crossedShare_0 l G d mc ms P x0 h) : aC l G mX1_crossedShare (wsN mX1_crossedShare) d mc ms [.ref x0] h P := by
  refine aC_ofF (M := mX1_crossedShare) rfl pX1_crossedShare (Nat.le_of_ble_eq_true rfl) hl ?_
  refine aw_eqv (lv2 := [(0, .ref x0)]) rfl rfl rfl rfl ?_
  unfold V_X1_crossedShare_0 at hv
  refine aw_aload_n 0 (x := x0) dX1_crossedShare_0 rfl rfl ?_
  obtain ⟨fs, a1, he, hx, hv⟩ := hv
  refine aw_get (v := .ref a1) he rfl in_X1 2 (by decide) q436 (Or.inl rfl) hx dX1_crossedShare_1 ?_
  obtain ⟨⟨fs, he⟩, hv⟩ := hv
  obtain ⟨d2, mc2, ms2, Q, hM, hd9, hc9, hs9, hv, hx⟩ := hv
  refine aw_callV (rest := []) hM he rfl rfl nX5_crossedOut q851 q852 q853 q132 q854 dX1_crossedShare_4 rfl hd9 (by decide) (Nat.le_of_ble_eq_true rfl) hc9 hs9 ?_ ?_
  rotate_left
  · exact fun E h2 q => aX_out (hx E h2 q) rfl hc9 hs9
  intro v9 h3 hq
  have hv := hv v9 h3 hq
  obtain ⟨y2, rfl, hv⟩ := hv
  refine aw_eqv (pc2 := 7) (st2 := [.int y2]) rfl rfl rfl rfl ?_
  revert hv hc9 hs9; generalize 0 + mc2 = c4; generalize 0 + ms2 = s5; intro hc9 hs9 hv
  refine aw_i2d dX1_crossedShare_7 ?_
  refine aw_dstore_n (lv' := [(1, .double (FP.i2d y2)), (0, .ref x0)]) dX1_crossedShare_8 rfl (Nat.le_of_ble_eq_true rfl) rfl ?_
  refine aw_dload_n 0 dX1_crossedShare_9 rfl rfl ?_
  refine aw_aload_n 1 (x := x0) dX1_crossedShare_10 rfl rfl ?_
  obtain ⟨fs, a6, he, hx, hv⟩ := hv
  refine aw_get (v := .ref a6) he rfl in_X1 1 (by decide) q435 (Or.inl rfl) hx dX1_crossedShare_11 ?_
  obtain ⟨⟨fs, he⟩, hv⟩ := hv
  obtain ⟨d2, mc2, ms2, Q, hM, hd9, hc9, hs9, hv, hx⟩ := hv
  refine aw_callV (rest := [.double (FP.i2d y2)]) hM he rfl rfl nX3_cellCount q572 q369 q370 q121 q371 dX1_crossedShare_14 rfl hd9 (by decide) (Nat.le_of_ble_eq_true rfl) hc9 hs9 ?_ ?_
  rotate_left
  · exact fun E h2 q => aX_out (hx E h2 q) rfl hc9 hs9
  intro v9 h8 hq
  have hv := hv v9 h8 hq
  obtain ⟨y7, rfl, hv⟩ := hv
  refine aw_eqv (pc2 := 17) (st2 := [.int y7, .double (FP.i2d y2)]) rfl rfl rfl rfl ?_
  revert hv hc9 hs9; generalize c4 + mc2 = c9; generalize s5 + ms2 = s10; intro hc9 hs9 hv
  refine aw_aload_n 1 (x := x0) dX1_crossedShare_17 rfl rfl ?_
  obtain ⟨fs, a11, he, hx, hv⟩ := hv
  refine aw_get (v := .ref a11) he rfl in_X1 1 (by decide) q435 (Or.inl rfl) hx dX1_crossedShare_18 ?_
  obtain ⟨fs, y12, he, hx, hv⟩ := hv
  refine aw_getN (v := .int y12) he rfl in_X3 5 (by decide) q335 (Or.inl rfl) hx dX1_crossedShare_21 ?_
  refine aw_iconst (v := 1) dX1_crossedShare_24 (by decide) ?_
  refine aw_iadd dX1_crossedShare_25 ?_
  refine aw_imul dX1_crossedShare_26 ?_
  refine aw_i2d dX1_crossedShare_27 ?_
  obtain ⟨z13, hv⟩ := hv
  refine aw_ddiv dX1_crossedShare_28 z13 ?_
  exact aw_dret rfl dX1_crossedShare_29 hv hc9 hs9
def V_X1_clearText_0 (l : Launch) (G : aG) (d mc ms : Nat) (P : aR → aH → Prop) (x0 : Nat) (h : aH) : Prop :=
  vR h x0 1 7 fun a1 =>
  vIs h a1 10 (
  vC l G mJ8_length (wsN mJ8_length) d mc ms [.ref a1] h 0 0 (xP P) (kI fun y2 h3 c4 s5 => 
  vR h3 x0 1 7 fun a6 =>
  vIs h3 a6 10 (
  vC l G mJ8_setLength (wsN mJ8_setLength) d mc ms [.ref a6, .int 0] h3 c4 s5 (xP P) (kV fun h8 c9 s10 => 
  P (.inl (some (.int y2))) h8))))
set_option maxHeartbeats 4000000 in
theorem A_X1_clearText {l : Launch} {G : aG} {d mc ms : Nat} {P : aR → aH → Prop} {x0 : Nat} {h : aH} (hl : l.stackTraces = false) (hv : V_X1_clearText_0 l G d mc ms P x0 h) : aC l G mX1_clearText (wsN mX1_clearText) d mc ms [.ref x0] h P := by
  refine aC_ofF (M := mX1_clearText) rfl pX1_clearText (Nat.le_of_ble_eq_true rfl) hl ?_
  refine aw_eqv (lv2 := [(0, .ref x0)]) rfl rfl rfl rfl ?_
  unfold V_X1_clearText_0 at hv
  refine aw_aload_n 0 (x := x0) dX1_clearText_0 rfl rfl ?_
  obtain ⟨fs, a1, he, hx, hv⟩ := hv
  refine aw_get (v := .ref a1) he rfl in_X1 7 (by decide) q442 (Or.inl rfl) hx dX1_clearText_1 ?_
  obtain ⟨⟨fs, he⟩, hv⟩ := hv
  obtain ⟨d2, mc2, ms2, Q, hM, hd9, hc9, hs9, hv, hx⟩ := hv
  refine aw_callV (rest := []) hM he rfl rfl nJ8_length q859 q860 q861 q134 q862 dX1_clearText_4 rfl hd9 (by decide) (Nat.le_of_ble_eq_true rfl) hc9 hs9 ?_ ?_
  rotate_left
  · exact fun E h2 q => aX_out (hx E h2 q) rfl hc9 hs9
  intro v9 h3 hq
  have hv := hv v9 h3 hq
  obtain ⟨y2, rfl, hv⟩ := hv
  refine aw_eqv (pc2 := 7) (st2 := [.int y2]) rfl rfl rfl rfl ?_
  revert hv hc9 hs9; generalize 0 + mc2 = c4; generalize 0 + ms2 = s5; intro hc9 hs9 hv
  refine aw_istore_n (lv' := [(1, .int y2), (0, .ref x0)]) dX1_clearText_7 rfl (Nat.le_of_ble_eq_true rfl) rfl ?_
  refine aw_aload_n 1 (x := x0) dX1_clearText_8 rfl rfl ?_
  obtain ⟨fs, a6, he, hx, hv⟩ := hv
  refine aw_get (v := .ref a6) he rfl in_X1 7 (by decide) q442 (Or.inl rfl) hx dX1_clearText_9 ?_
  refine aw_iconst (v := 0) dX1_clearText_12 (by decide) ?_
  obtain ⟨⟨fs, he⟩, hv⟩ := hv
  obtain ⟨d2, mc2, ms2, Q, hM, hd9, hc9, hs9, hv, hx⟩ := hv
  refine aw_callV (rest := []) hM he rfl rfl nJ8_setLength q866 q867 q868 q134 q869 dX1_clearText_13 rfl hd9 (by decide) (Nat.le_of_ble_eq_true rfl) hc9 hs9 ?_ ?_
  rotate_left
  · exact fun E h2 q => aX_out (hx E h2 q) rfl hc9 hs9
  intro v9 h8 hq
  have hv := hv v9 h8 hq
  obtain ⟨rfl, hv⟩ := hv
  refine aw_eqv (pc2 := 16) (st2 := []) rfl rfl rfl rfl ?_
  revert hv hc9 hs9; generalize c4 + mc2 = c9; generalize s5 + ms2 = s10; intro hc9 hs9 hv
  refine aw_iload_n 0 dX1_clearText_16 rfl rfl ?_
  exact aw_iret rfl dX1_clearText_17 hv hc9 hs9
def V_X1_textLength_0 (l : Launch) (G : aG) (d mc ms : Nat) (P : aR → aH → Prop) (x0 : Nat) (h : aH) : Prop :=
  vR h x0 1 7 fun a1 =>
  vIs h a1 10 (
  vC l G mJ8_length (wsN mJ8_length) d mc ms [.ref a1] h 0 0 (xP P) (kI fun y2 h3 c4 s5 => 
  P (.inl (some (.int y2))) h3))
set_option maxHeartbeats 4000000 in
theorem A_X1_textLength {l : Launch} {G : aG} {d mc ms : Nat} {P : aR → aH → Prop} {x0 : Nat} {h : aH} (hl : l.stackTraces = false) (hv : V_X1_textLength_0 l G d mc ms P x0 h) : aC l G mX1_textLength (wsN mX1_textLength) d mc ms [.ref x0] h P := by
  refine aC_ofF (M := mX1_textLength) rfl pX1_textLength (Nat.le_of_ble_eq_true rfl) hl ?_
  refine aw_eqv (lv2 := [(0, .ref x0)]) rfl rfl rfl rfl ?_
  unfold V_X1_textLength_0 at hv
  refine aw_aload_n 0 (x := x0) dX1_textLength_0 rfl rfl ?_
  obtain ⟨fs, a1, he, hx, hv⟩ := hv
  refine aw_get (v := .ref a1) he rfl in_X1 7 (by decide) q442 (Or.inl rfl) hx dX1_textLength_1 ?_
  obtain ⟨⟨fs, he⟩, hv⟩ := hv
  obtain ⟨d2, mc2, ms2, Q, hM, hd9, hc9, hs9, hv, hx⟩ := hv
  refine aw_callV (rest := []) hM he rfl rfl nJ8_length q859 q860 q861 q134 q862 dX1_textLength_4 rfl hd9 (by decide) (Nat.le_of_ble_eq_true rfl) hc9 hs9 ?_ ?_
  rotate_left
  · exact fun E h2 q => aX_out (hx E h2 q) rfl hc9 hs9
  intro v9 h3 hq
  have hv := hv v9 h3 hq
  obtain ⟨y2, rfl, hv⟩ := hv
  refine aw_eqv (pc2 := 7) (st2 := [.int y2]) rfl rfl rfl rfl ?_
  revert hv hc9 hs9; generalize 0 + mc2 = c4; generalize 0 + ms2 = s5; intro hc9 hs9 hv
  exact aw_iret rfl dX1_textLength_7 hv hc9 hs9
def V_X9_next_0 (l : Launch) (G : aG) (d mc ms : Nat) (P : aR → aH → Prop) (x0 : Nat) (h : aH) : Prop :=
  vI h x0 8 1 fun y1 =>
  vR h x0 8 3 fun a2 =>
  vR h a2 1 7 fun a3 =>
  vIs h a3 10 (
  vC l G mJ8_length (wsN mJ8_length) d mc ms [.ref a3] h 0 0 (xP P) (kI fun y4 h5 c6 s7 => 
  (y4 ≤ y1 → 
    P (.inl (some (.int 0))) h5
    ) ∧ (¬ y4 ≤ y1 → 
    vR h5 x0 8 3 fun a9 =>
    vR h5 a9 1 7 fun a10 =>
    vI h5 x0 8 1 fun y11 =>
    vIs h5 a10 10 (
    vC l G mJ8_charAt (wsN mJ8_charAt) d mc ms [.ref a10, .int y11] h5 c6 s7 (xP P) (kI fun y12 h13 c14 s15 => 
    narrow .char (.int y12) = .int y12 ∧ P (.inl (some (.int y12))) h13))
    )))
set_option maxHeartbeats 4000000 in
theorem A_X9_next {l : Launch} {G : aG} {d mc ms : Nat} {P : aR → aH → Prop} {x0 : Nat} {h : aH} (hl : l.stackTraces = false) (hv : V_X9_next_0 l G d mc ms P x0 h) : aC l G mX9_next (wsN mX9_next) d mc ms [.ref x0] h P := by
  refine aC_ofF (M := mX9_next) rfl pX9_next (Nat.le_of_ble_eq_true rfl) hl ?_
  refine aw_eqv (lv2 := [(0, .ref x0)]) rfl rfl rfl rfl ?_
  unfold V_X9_next_0 at hv
  refine aw_aload_n 0 (x := x0) dX9_next_0 rfl rfl ?_
  obtain ⟨fs, y1, he, hx, hv⟩ := hv
  refine aw_get (v := .int y1) he rfl in_X9 1 (by decide) q1312 (Or.inl rfl) hx dX9_next_1 ?_
  refine aw_aload_n 0 (x := x0) dX9_next_4 rfl rfl ?_
  obtain ⟨fs, a2, he, hx, hv⟩ := hv
  refine aw_get (v := .ref a2) he rfl in_X9 3 (by decide) q1316 (Or.inl rfl) hx dX9_next_5 ?_
  obtain ⟨fs, a3, he, hx, hv⟩ := hv
  refine aw_getN (v := .ref a3) he rfl in_X1 7 (by decide) q441 (Or.inl rfl) hx dX9_next_8 ?_
  obtain ⟨⟨fs, he⟩, hv⟩ := hv
  obtain ⟨d2, mc2, ms2, Q, hM, hd9, hc9, hs9, hv, hx⟩ := hv
  refine aw_callV (rest := [.int y1]) hM he rfl rfl nJ8_length q1224 q860 q861 q134 q862 dX9_next_11 rfl hd9 (by decide) (Nat.le_of_ble_eq_true rfl) hc9 hs9 ?_ ?_
  rotate_left
  · exact fun E h2 q => aX_out (hx E h2 q) rfl hc9 hs9
  intro v9 h5 hq
  have hv := hv v9 h5 hq
  obtain ⟨y4, rfl, hv⟩ := hv
  refine aw_eqv (pc2 := 14) (st2 := [.int y4, .int y1]) rfl rfl rfl rfl ?_
  revert hv hc9 hs9; generalize 0 + mc2 = c6; generalize 0 + ms2 = s7; intro hc9 hs9 hv
  refine aw_icmp_ge 34 dX9_next_14 (by decide) (fun c8 => ?_) (fun c8 => ?_)
  · have hv := hv.1 c8
    refine aw_iconst (v := 0) dX9_next_34 (by decide) ?_
    exact aw_zret rfl rfl dX9_next_35 hv hc9 hs9
  · have hv := hv.2 c8
    refine aw_aload_n 0 (x := x0) dX9_next_17 rfl rfl ?_
    obtain ⟨fs, a9, he, hx, hv⟩ := hv
    refine aw_get (v := .ref a9) he rfl in_X9 3 (by decide) q1316 (Or.inl rfl) hx dX9_next_18 ?_
    obtain ⟨fs, a10, he, hx, hv⟩ := hv
    refine aw_getN (v := .ref a10) he rfl in_X1 7 (by decide) q441 (Or.inl rfl) hx dX9_next_21 ?_
    refine aw_aload_n 0 (x := x0) dX9_next_24 rfl rfl ?_
    obtain ⟨fs, y11, he, hx, hv⟩ := hv
    refine aw_get (v := .int y11) he rfl in_X9 1 (by decide) q1312 (Or.inl rfl) hx dX9_next_25 ?_
    obtain ⟨⟨fs, he⟩, hv⟩ := hv
    obtain ⟨d2, mc2, ms2, Q, hM, hd9, hc9, hs9, hv, hx⟩ := hv
    refine aw_callV (rest := []) hM he rfl rfl nJ8_charAt q1225 q1226 q1227 q134 q1228 dX9_next_28 rfl hd9 (by decide) (Nat.le_of_ble_eq_true rfl) hc9 hs9 ?_ ?_
    rotate_left
    · exact fun E h2 q => aX_out (hx E h2 q) rfl hc9 hs9
    intro v9 h13 hq
    have hv := hv v9 h13 hq
    obtain ⟨y12, rfl, hv⟩ := hv
    refine aw_eqv (pc2 := 31) (st2 := [.int y12]) rfl rfl rfl rfl ?_
    revert hv hc9 hs9; generalize c6 + mc2 = c14; generalize s7 + ms2 = s15; intro hc9 hs9 hv
    refine aw_goto 35 dX9_next_31 (by decide) ?_
    obtain ⟨z16, hv⟩ := hv
    exact aw_zret rfl z16 dX9_next_35 hv hc9 hs9
def V_X1_isIn_0 (l : Launch) (G : aG) (d mc ms : Nat) (P : aR → aH → Prop) (x0 : Int32) (x1 : Int32) (x2 : Int32) (h : aH) : Prop :=
  vB (if x0 < x1 then (0 : Int32) else if x2 < x0 then (0 : Int32) else 1) ∧ P (.inl (some (.int (if x0 < x1 then (0 : Int32) else if x2 < x0 then (0 : Int32) else 1)))) h
set_option maxHeartbeats 4000000 in
theorem A_X1_isIn {l : Launch} {G : aG} {d mc ms : Nat} {P : aR → aH → Prop} {x0 : Int32} {x1 : Int32} {x2 : Int32} {h : aH} (hl : l.stackTraces = false) (hv : V_X1_isIn_0 l G d mc ms P x0 x1 x2 h) : aC l G mX1_isIn (wsN mX1_isIn) d mc ms [.int x0, .int x1, .int x2] h P := by
  refine aC_ofF (M := mX1_isIn) rfl pX1_isIn (Nat.le_of_ble_eq_true rfl) hl ?_
  refine aw_eqv (lv2 := [(0, .int x0), (1, .int x1), (2, .int x2)]) rfl rfl rfl rfl ?_
  unfold V_X1_isIn_0 at hv
  refine aw_iload_n 0 dX1_isIn_0 rfl rfl ?_
  refine aw_iload_n 1 dX1_isIn_1 rfl rfl ?_
  have J9 : AW l G mX1_isIn d mc ms P 15 [(0, .int x0), (1, .int x1), (2, .int x2)] [.int (if x0 < x1 then (0 : Int32) else if x2 < x0 then (0 : Int32) else 1)] h 0 0 := by
    obtain ⟨z3, hv⟩ := hv
    exact aw_zret rfl z3.nar dX1_isIn_15 hv (Nat.zero_le _) (Nat.zero_le _)
  refine aw_icmp_lt 14 dX1_isIn_2 (by decide) (fun c1 => ?_) (fun c1 => ?_)
  · have J9 := aw_ifT c1 J9
    refine aw_iconst (v := 0) dX1_isIn_14 (by decide) ?_
    exact J9
  · have J9 := aw_ifF c1 J9
    refine aw_iload_n 0 dX1_isIn_5 rfl rfl ?_
    refine aw_iload_n 2 dX1_isIn_6 rfl rfl ?_
    refine aw_icmp_gt 14 dX1_isIn_7 (by decide) (fun c2 => ?_) (fun c2 => ?_)
    · have J9 := aw_ifT c2 J9
      refine aw_iconst (v := 0) dX1_isIn_14 (by decide) ?_
      exact J9
    · have J9 := aw_ifF c2 J9
      refine aw_iconst (v := 1) dX1_isIn_10 (by decide) ?_
      refine aw_goto 15 dX1_isIn_11 (by decide) ?_
      exact J9
def V_X9_seesDigit_0 (l : Launch) (G : aG) (d mc ms : Nat) (P : aR → aH → Prop) (x0 : Nat) (h : aH) : Prop :=
  vI h x0 8 2 fun y1 =>
  (¬ y1 = 0 → 
    P (.inl (some (.int 0))) h
    ) ∧ (y1 = 0 → 
    vIs h x0 8 (
    vC l G mX9_next (wsN mX9_next) d mc ms [.ref x0] h 0 0 (xP P) (kI fun y3 h4 c5 s6 => 
    vC l G mX1_isIn (wsN mX1_isIn) d mc ms [.int y3, .int 48, .int 57] h4 c5 s6 (xP P) (kI fun y7 h8 c9 s10 => 
    vB (if y7 = 0 then (0 : Int32) else 1) ∧ P (.inl (some (.int (if y7 = 0 then (0 : Int32) else 1)))) h8)))
    )
set_option maxHeartbeats 4000000 in
theorem A_X9_seesDigit {l : Launch} {G : aG} {d mc ms : Nat} {P : aR → aH → Prop} {x0 : Nat} {h : aH} (hl : l.stackTraces = false) (hv : V_X9_seesDigit_0 l G d mc ms P x0 h) : aC l G mX9_seesDigit (wsN mX9_seesDigit) d mc ms [.ref x0] h P := by
  refine aC_ofF (M := mX9_seesDigit) rfl pX9_seesDigit (Nat.le_of_ble_eq_true rfl) hl ?_
  refine aw_eqv (lv2 := [(0, .ref x0)]) rfl rfl rfl rfl ?_
  unfold V_X9_seesDigit_0 at hv
  refine aw_aload_n 0 (x := x0) dX9_seesDigit_0 rfl rfl ?_
  obtain ⟨fs, y1, he, hx, hv⟩ := hv
  refine aw_get (v := .int y1) he rfl in_X9 2 (by decide) q1314 (Or.inl rfl) hx dX9_seesDigit_1 ?_
  refine aw_if_ne 25 dX9_seesDigit_4 (by decide) (fun c2 => ?_) (fun c2 => ?_)
  · have hv := hv.1 c2
    refine aw_iconst (v := 0) dX9_seesDigit_25 (by decide) ?_
    exact aw_zret rfl rfl dX9_seesDigit_26 hv (Nat.zero_le _) (Nat.zero_le _)
  · have hv := hv.2 c2
    refine aw_aload_n 0 (x := x0) dX9_seesDigit_7 rfl rfl ?_
    obtain ⟨⟨fs, he⟩, hv⟩ := hv
    obtain ⟨d2, mc2, ms2, Q, hM, hd9, hc9, hs9, hv, hx⟩ := hv
    refine aw_callV (rest := []) hM he rfl rfl nX9_next q1220 q1222 qs34 q151 q1223 dX9_seesDigit_8 rfl hd9 (by decide) (Nat.le_of_ble_eq_true rfl) hc9 hs9 ?_ ?_
    rotate_left
    · exact fun E h2 q => aX_out (hx E h2 q) rfl hc9 hs9
    intro v9 h4 hq
    have hv := hv v9 h4 hq
    obtain ⟨y3, rfl, hv⟩ := hv
    refine aw_eqv (pc2 := 11) (st2 := [.int y3]) rfl rfl rfl rfl ?_
    revert hv hc9 hs9; generalize 0 + mc2 = c5; generalize 0 + ms2 = s6; intro hc9 hs9 hv
    refine aw_bipush (v := 48) dX9_seesDigit_11 (by decide) ?_
    refine aw_bipush (v := 57) dX9_seesDigit_13 (by decide) ?_
    obtain ⟨d2, mc2, ms2, Q, hM, hd9, hc9, hs9, hv, hx⟩ := hv
    refine aw_callSN (rest := []) hM nX1_isIn q1238 q1239 q119 q1240 dX9_seesDigit_15 rfl hd9 (by decide) (Nat.le_of_ble_eq_true rfl) hc9 hs9 ?_ ?_
    rotate_left
    · exact fun E h2 q => aX_out (hx E h2 q) rfl hc9 hs9
    intro v9 h8 hq
    have hv := hv v9 h8 hq
    obtain ⟨y7, rfl, hv⟩ := hv
    refine aw_eqv (pc2 := 18) (st2 := [.int y7]) rfl rfl rfl rfl ?_
    revert hv hc9 hs9; generalize c5 + mc2 = c9; generalize s6 + ms2 = s10; intro hc9 hs9 hv
    have J9 : AW l G mX9_seesDigit d mc ms P 26 [(0, .ref x0)] [.int (if y7 = 0 then (0 : Int32) else 1)] h8 c9 s10 := by
      obtain ⟨z12, hv⟩ := hv
      exact aw_zret rfl z12.nar dX9_seesDigit_26 hv hc9 hs9
    refine aw_if_eq 25 dX9_seesDigit_18 (by decide) (fun c11 => ?_) (fun c11 => ?_)
    · have J9 := aw_ifT c11 J9
      refine aw_iconst (v := 0) dX9_seesDigit_25 (by decide) ?_
      exact J9
    · have J9 := aw_ifF c11 J9
      refine aw_iconst (v := 1) dX9_seesDigit_21 (by decide) ?_
      refine aw_goto 26 dX9_seesDigit_22 (by decide) ?_
      exact J9
def V_X9_readDigit_0 (l : Launch) (G : aG) (d mc ms : Nat) (P : aR → aH → Prop) (x0 : Nat) (h : aH) : Prop :=
  vIs h x0 8 (
  vC l G mX9_seesDigit (wsN mX9_seesDigit) d mc ms [.ref x0] h 0 0 (xP P) (kI fun y1 h2 c3 s4 => 
  vB (if y1 = 0 then (1 : Int32) else 0) ∧
  vPut h2 x0 8 2 (.int (if y1 = 0 then (1 : Int32) else 0)) fun h7 =>
  vI h7 x0 8 2 fun y8 =>
  (y8 = 0 → 
    vI h7 x0 8 1 fun y10 =>
    vPut h7 x0 8 1 (.int (y10 + (1 : Int32))) fun h11 =>
    vR h11 x0 8 3 fun a12 =>
    vR h11 a12 1 7 fun a13 =>
    vI h11 x0 8 1 fun y14 =>
    vIs h11 a13 10 (
    vC l G mJ8_charAt (wsN mJ8_charAt) d mc ms [.ref a13, .int (y14 - (1 : Int32))] h11 c3 s4 (xP P) (kI fun y15 h16 c17 s18 => 
    P (.inl (some (.int (y15 - (48 : Int32))))) h16))
    ) ∧ (¬ y8 = 0 → 
    P (.inl (some (.int 0))) h7
    )))
set_option maxHeartbeats 4000000 in
theorem A_X9_readDigit {l : Launch} {G : aG} {d mc ms : Nat} {P : aR → aH → Prop} {x0 : Nat} {h : aH} (hl : l.stackTraces = false) (hv : V_X9_readDigit_0 l G d mc ms P x0 h) : aC l G mX9_readDigit (wsN mX9_readDigit) d mc ms [.ref x0] h P := by
  refine aC_ofF (M := mX9_readDigit) rfl pX9_readDigit (Nat.le_of_ble_eq_true rfl) hl ?_
  refine aw_eqv (lv2 := [(0, .ref x0)]) rfl rfl rfl rfl ?_
  unfold V_X9_readDigit_0 at hv
  refine aw_aload_n 0 (x := x0) dX9_readDigit_0 rfl rfl ?_
  refine aw_aload_n 0 (x := x0) dX9_readDigit_1 rfl rfl ?_
  obtain ⟨⟨fs, he⟩, hv⟩ := hv
  obtain ⟨d2, mc2, ms2, Q, hM, hd9, hc9, hs9, hv, hx⟩ := hv
  refine aw_callV (rest := [.ref x0]) hM he rfl rfl nX9_seesDigit q1216 q1218 qs33 q151 q1219 dX9_readDigit_2 rfl hd9 (by decide) (Nat.le_of_ble_eq_true rfl) hc9 hs9 ?_ ?_
  rotate_left
  · exact fun E h2 q => aX_out (hx E h2 q) rfl hc9 hs9
  intro v9 h2 hq
  have hv := hv v9 h2 hq
  obtain ⟨y1, rfl, hv⟩ := hv
  refine aw_eqv (pc2 := 5) (st2 := [.int y1, .ref x0]) rfl rfl rfl rfl ?_
  revert hv hc9 hs9; generalize 0 + mc2 = c3; generalize 0 + ms2 = s4; intro hc9 hs9 hv
  have J9 : AW l G mX9_readDigit d mc ms P 13 [(0, .ref x0)] [.int (if y1 = 0 then (1 : Int32) else 0), .ref x0] h2 c3 s4 := by
    obtain ⟨z6, hv⟩ := hv
    obtain ⟨fs, he, hk9, hv⟩ := hv
    refine aw_put he rfl in_X9 tyX9_ok nmX9 2 (by decide) q1314 (Or.inl rfl) rfl z6.nar z6.fit hk9 rfl dX9_readDigit_13 ?_
    revert hv; generalize aUp h2 x0 (.inr (8, fs.set 2 (.int (if y1 = 0 then (1 : Int32) else 0)))) = h7; intro hv
    refine aw_aload_n 0 (x := x0) dX9_readDigit_16 rfl rfl ?_
    obtain ⟨fs, y8, he, hx, hv⟩ := hv
    refine aw_get (v := .int y8) he rfl in_X9 2 (by decide) q1314 (Or.inl rfl) hx dX9_readDigit_17 ?_
    refine aw_if_eq 25 dX9_readDigit_20 (by decide) (fun c9 => ?_) (fun c9 => ?_)
    · have hv := hv.1 c9
      refine aw_aload_n 0 (x := x0) dX9_readDigit_25 rfl rfl ?_
      refine aw_dup dX9_readDigit_26 rfl ?_
      obtain ⟨fs, y10, he, hx, hv⟩ := hv
      refine aw_get (v := .int y10) he rfl in_X9 1 (by decide) q1312 (Or.inl rfl) hx dX9_readDigit_27 ?_
      refine aw_iconst (v := 1) dX9_readDigit_30 (by decide) ?_
      refine aw_iadd dX9_readDigit_31 ?_
      obtain ⟨fs, he, hk9, hv⟩ := hv
      refine aw_put he rfl in_X9 tyX9_ok nmX9 1 (by decide) q1312 (Or.inl rfl) rfl rfl rfl hk9 rfl dX9_readDigit_32 ?_
      revert hv; generalize aUp h7 x0 (.inr (8, fs.set 1 (.int (y10 + (1 : Int32))))) = h11; intro hv
      refine aw_aload_n 0 (x := x0) dX9_readDigit_35 rfl rfl ?_
      obtain ⟨fs, a12, he, hx, hv⟩ := hv
      refine aw_get (v := .ref a12) he rfl in_X9 3 (by decide) q1316 (Or.inl rfl) hx dX9_readDigit_36 ?_
      obtain ⟨fs, a13, he, hx, hv⟩ := hv
      refine aw_getN (v := .ref a13) he rfl in_X1 7 (by decide) q441 (Or.inl rfl) hx dX9_readDigit_39 ?_
      refine aw_aload_n 0 (x := x0) dX9_readDigit_42 rfl rfl ?_
      obtain ⟨fs, y14, he, hx, hv⟩ := hv
      refine aw_get (v := .int y14) he rfl in_X9 1 (by decide) q1312 (Or.inl rfl) hx dX9_readDigit_43 ?_
      refine aw_iconst (v := 1) dX9_readDigit_46 (by decide) ?_
      refine aw_isub dX9_readDigit_47 ?_
      obtain ⟨⟨fs, he⟩, hv⟩ := hv
      obtain ⟨d2, mc2, ms2, Q, hM, hd9, hc9, hs9, hv, hx⟩ := hv
      refine aw_callV (rest := []) hM he rfl rfl nJ8_charAt q1225 q1226 q1227 q134 q1228 dX9_readDigit_48 rfl hd9 (by decide) (Nat.le_of_ble_eq_true rfl) hc9 hs9 ?_ ?_
      rotate_left
      · exact fun E h2 q => aX_out (hx E h2 q) rfl hc9 hs9
      intro v9 h16 hq
      have hv := hv v9 h16 hq
      obtain ⟨y15, rfl, hv⟩ := hv
      refine aw_eqv (pc2 := 51) (st2 := [.int y15]) rfl rfl rfl rfl ?_
      revert hv hc9 hs9; generalize c3 + mc2 = c17; generalize s4 + ms2 = s18; intro hc9 hs9 hv
      refine aw_bipush (v := 48) dX9_readDigit_51 (by decide) ?_
      refine aw_isub dX9_readDigit_53 ?_
      exact aw_iret rfl dX9_readDigit_54 hv hc9 hs9
    · have hv := hv.2 c9
      refine aw_iconst (v := 0) dX9_readDigit_23 (by decide) ?_
      exact aw_iret rfl dX9_readDigit_24 hv hc9 hs9
  refine aw_if_ne 12 dX9_readDigit_5 (by decide) (fun c5 => ?_) (fun c5 => ?_)
  · have J9 := aw_ifF c5 J9
    refine aw_iconst (v := 0) dX9_readDigit_12 (by decide) ?_
    exact J9
  · have J9 := aw_ifT c5 J9
    refine aw_iconst (v := 1) dX9_readDigit_8 (by decide) ?_
    refine aw_goto 13 dX9_readDigit_9 (by decide) ?_
    exact J9
def V_X9_readNumber_0 (l : Launch) (G : aG) (d mc ms : Nat) (P : aR → aH → Prop) (x0 : Nat) (h : aH) : Prop :=
  vIs h x0 8 (
  vC l G mX9_readDigit (wsN mX9_readDigit) d mc ms [.ref x0] h 0 0 (xP P) (kI fun y1 h2 c3 s4 => 
  (y1 ≤ 0 → 
    P (.inl (some (.int y1))) h2
    ) ∧ (¬ y1 ≤ 0 → 
    vIs h2 x0 8 (
    vC l G mX9_seesDigit (wsN mX9_seesDigit) d mc ms [.ref x0] h2 c3 s4 (xP P) (kI fun y6 h7 c8 s9 => 
    (y6 = 0 → 
      P (.inl (some (.int y1))) h7
      ) ∧ (¬ y6 = 0 → 
      vIs h7 x0 8 (
      vC l G mX9_readDigit (wsN mX9_readDigit) d mc ms [.ref x0] h7 c8 s9 (xP P) (kI fun y11 h12 c13 s14 => 
      P (.inl (some (.int (((10 : Int32) * y1) + y11)))) h12))
      )))
    )))
set_option maxHeartbeats 4000000 in
theorem A_X9_readNumber {l : Launch} {G : aG} {d mc ms : Nat} {P : aR → aH → Prop} {x0 : Nat} {h : aH} (hl : l.stackTraces = false) (hv : V_X9_readNumber_0 l G d mc ms P x0 h) : aC l G mX9_readNumber (wsN mX9_readNumber) d mc ms [.ref x0] h P := by
  refine aC_ofF (M := mX9_readNumber) rfl pX9_readNumber (Nat.le_of_ble_eq_true rfl) hl ?_
  refine aw_eqv (lv2 := [(0, .ref x0)]) rfl rfl rfl rfl ?_
  unfold V_X9_readNumber_0 at hv
  refine aw_aload_n 0 (x := x0) dX9_readNumber_0 rfl rfl ?_
  obtain ⟨⟨fs, he⟩, hv⟩ := hv
  obtain ⟨d2, mc2, ms2, Q, hM, hd9, hc9, hs9, hv, hx⟩ := hv
  refine aw_callV (rest := []) hM he rfl rfl nX9_readDigit q1212 q1214 qs32 q151 q1215 dX9_readNumber_1 rfl hd9 (by decide) (Nat.le_of_ble_eq_true rfl) hc9 hs9 ?_ ?_
  rotate_left
  · exact fun E h2 q => aX_out (hx E h2 q) rfl hc9 hs9
  intro v9 h2 hq
  have hv := hv v9 h2 hq
  obtain ⟨y1, rfl, hv⟩ := hv
  refine aw_eqv (pc2 := 4) (st2 := [.int y1]) rfl rfl rfl rfl ?_
  revert hv hc9 hs9; generalize 0 + mc2 = c3; generalize 0 + ms2 = s4; intro hc9 hs9 hv
  refine aw_istore_n (lv' := [(1, .int y1), (0, .ref x0)]) dX9_readNumber_4 rfl (Nat.le_of_ble_eq_true rfl) rfl ?_
  refine aw_iload_n 0 dX9_readNumber_5 rfl rfl ?_
  refine aw_if_le 28 dX9_readNumber_6 (by decide) (fun c5 => ?_) (fun c5 => ?_)
  · have hv := hv.1 c5
    refine aw_iload_n 0 dX9_readNumber_28 rfl rfl ?_
    exact aw_iret rfl dX9_readNumber_29 hv hc9 hs9
  · have hv := hv.2 c5
    refine aw_aload_n 1 (x := x0) dX9_readNumber_9 rfl rfl ?_
    obtain ⟨⟨fs, he⟩, hv⟩ := hv
    obtain ⟨d2, mc2, ms2, Q, hM, hd9, hc9, hs9, hv, hx⟩ := hv
    refine aw_callV (rest := []) hM he rfl rfl nX9_seesDigit q1216 q1218 qs33 q151 q1219 dX9_readNumber_10 rfl hd9 (by decide) (Nat.le_of_ble_eq_true rfl) hc9 hs9 ?_ ?_
    rotate_left
    · exact fun E h2 q => aX_out (hx E h2 q) rfl hc9 hs9
    intro v9 h7 hq
    have hv := hv v9 h7 hq
    obtain ⟨y6, rfl, hv⟩ := hv
    refine aw_eqv (pc2 := 13) (st2 := [.int y6]) rfl rfl rfl rfl ?_
    revert hv hc9 hs9; generalize c3 + mc2 = c8; generalize s4 + ms2 = s9; intro hc9 hs9 hv
    refine aw_if_eq 28 dX9_readNumber_13 (by decide) (fun c10 => ?_) (fun c10 => ?_)
    · have hv := hv.1 c10
      refine aw_iload_n 0 dX9_readNumber_28 rfl rfl ?_
      exact aw_iret rfl dX9_readNumber_29 hv hc9 hs9
    · have hv := hv.2 c10
      refine aw_bipush (v := 10) dX9_readNumber_16 (by decide) ?_
      refine aw_iload_n 0 dX9_readNumber_18 rfl rfl ?_
      refine aw_imul dX9_readNumber_19 ?_
      refine aw_aload_n 1 (x := x0) dX9_readNumber_20 rfl rfl ?_
      obtain ⟨⟨fs, he⟩, hv⟩ := hv
      obtain ⟨d2, mc2, ms2, Q, hM, hd9, hc9, hs9, hv, hx⟩ := hv
      refine aw_callV (rest := [.int ((10 : Int32) * y1)]) hM he rfl rfl nX9_readDigit q1212 q1214 qs32 q151 q1215 dX9_readNumber_21 rfl hd9 (by decide) (Nat.le_of_ble_eq_true rfl) hc9 hs9 ?_ ?_
      rotate_left
      · exact fun E h2 q => aX_out (hx E h2 q) rfl hc9 hs9
      intro v9 h12 hq
      have hv := hv v9 h12 hq
      obtain ⟨y11, rfl, hv⟩ := hv
      refine aw_eqv (pc2 := 24) (st2 := [.int y11, .int ((10 : Int32) * y1)]) rfl rfl rfl rfl ?_
      revert hv hc9 hs9; generalize c8 + mc2 = c13; generalize s9 + ms2 = s14; intro hc9 hs9 hv
      refine aw_iadd dX9_readNumber_24 ?_
      refine aw_goto 29 dX9_readNumber_25 (by decide) ?_
      exact aw_iret rfl dX9_readNumber_29 hv hc9 hs9
def V_X9_skips_0 (l : Launch) (G : aG) (d mc ms : Nat) (P : aR → aH → Prop) (x0 : Nat) (x1 : Int32) (h : aH) : Prop :=
  vI h x0 8 2 fun y1 =>
  (¬ y1 = 0 → 
    vI h x0 8 1 fun y3 =>
    vPut h x0 8 1 (.int (y3 + (0 : Int32))) fun h5 =>
    P (.inl (some (.int 0))) h5
    ) ∧ (y1 = 0 → 
    vIs h x0 8 (
    vC l G mX9_next (wsN mX9_next) d mc ms [.ref x0] h 0 0 (xP P) (kI fun y6 h7 c8 s9 => 
    vI h7 x0 8 1 fun y11 =>
    vPut h7 x0 8 1 (.int (y11 + (if (if y6 = x1 then (1 : Int32) else 0) = 0 then (0 : Int32) else 1))) fun h13 =>
    vB (if y6 = x1 then (1 : Int32) else 0) ∧ P (.inl (some (.int (if y6 = x1 then (1 : Int32) else 0)))) h13))
    )
set_option maxHeartbeats 4000000 in
theorem A_X9_skips {l : Launch} {G : aG} {d mc ms : Nat} {P : aR → aH → Prop} {x0 : Nat} {x1 : Int32} {h : aH} (hl : l.stackTraces = false) (hv : V_X9_skips_0 l G d mc ms P x0 x1 h) : aC l G mX9_skips (wsN mX9_skips) d mc ms [.ref x0, .int x1] h P := by
  refine aC_ofF (M := mX9_skips) rfl pX9_skips (Nat.le_of_ble_eq_true rfl) hl ?_
  refine aw_eqv (lv2 := [(0, .ref x0), (1, .int x1)]) rfl rfl rfl rfl ?_
  unfold V_X9_skips_0 at hv
  refine aw_aload_n 0 (x := x0) dX9_skips_0 rfl rfl ?_
  obtain ⟨fs, y1, he, hx, hv⟩ := hv
  refine aw_get (v := .int y1) he rfl in_X9 2 (by decide) q1314 (Or.inl rfl) hx dX9_skips_1 ?_
  refine aw_if_ne 19 dX9_skips_4 (by decide) (fun c2 => ?_) (fun c2 => ?_)
  · have hv := hv.1 c2
    refine aw_iconst (v := 0) dX9_skips_19 (by decide) ?_
    refine aw_istore_n (lv' := [(2, .int 0), (0, .ref x0), (1, .int x1)]) dX9_skips_20 rfl (Nat.le_of_ble_eq_true rfl) rfl ?_
    refine aw_aload_n 1 (x := x0) dX9_skips_21 rfl rfl ?_
    refine aw_dup dX9_skips_22 rfl ?_
    obtain ⟨fs, y3, he, hx, hv⟩ := hv
    refine aw_get (v := .int y3) he rfl in_X9 1 (by decide) q1312 (Or.inl rfl) hx dX9_skips_23 ?_
    refine aw_iload_n 0 dX9_skips_26 rfl rfl ?_
    refine aw_if_eq 34 dX9_skips_27 (by decide) (fun c4 => ?_) (fun c4 => absurd c4 (by decide))
    refine aw_iconst (v := 0) dX9_skips_34 (by decide) ?_
    refine aw_iadd dX9_skips_35 ?_
    obtain ⟨fs, he, hk9, hv⟩ := hv
    refine aw_put he rfl in_X9 tyX9_ok nmX9 1 (by decide) q1312 (Or.inl rfl) rfl rfl rfl hk9 rfl dX9_skips_36 ?_
    revert hv; generalize aUp h x0 (.inr (8, fs.set 1 (.int (y3 + (0 : Int32))))) = h5; intro hv
    refine aw_iload_n 0 dX9_skips_39 rfl rfl ?_
    exact aw_zret rfl rfl dX9_skips_40 hv (Nat.zero_le _) (Nat.zero_le _)
  · have hv := hv.2 c2
    refine aw_aload_n 0 (x := x0) dX9_skips_7 rfl rfl ?_
    obtain ⟨⟨fs, he⟩, hv⟩ := hv
    obtain ⟨d2, mc2, ms2, Q, hM, hd9, hc9, hs9, hv, hx⟩ := hv
    refine aw_callV (rest := []) hM he rfl rfl nX9_next q1220 q1222 qs34 q151 q1223 dX9_skips_8 rfl hd9 (by decide) (Nat.le_of_ble_eq_true rfl) hc9 hs9 ?_ ?_
    rotate_left
    · exact fun E h2 q => aX_out (hx E h2 q) rfl hc9 hs9
    intro v9 h7 hq
    have hv := hv v9 h7 hq
    obtain ⟨y6, rfl, hv⟩ := hv
    refine aw_eqv (pc2 := 11) (st2 := [.int y6]) rfl rfl rfl rfl ?_
    revert hv hc9 hs9; generalize 0 + mc2 = c8; generalize 0 + ms2 = s9; intro hc9 hs9 hv
    refine aw_iload_n 1 dX9_skips_11 rfl rfl ?_
    have J9 : AW l G mX9_skips d mc ms P 20 [(0, .ref x0), (1, .int x1)] [.int (if y6 = x1 then (1 : Int32) else 0)] h7 c8 s9 := by
      refine aw_istore_n (lv' := [(2, .int (if y6 = x1 then (1 : Int32) else 0)), (0, .ref x0), (1, .int x1)]) dX9_skips_20 rfl (Nat.le_of_ble_eq_true rfl) rfl ?_
      refine aw_aload_n 1 (x := x0) dX9_skips_21 rfl rfl ?_
      refine aw_dup dX9_skips_22 rfl ?_
      obtain ⟨fs, y11, he, hx, hv⟩ := hv
      refine aw_get (v := .int y11) he rfl in_X9 1 (by decide) q1312 (Or.inl rfl) hx dX9_skips_23 ?_
      refine aw_iload_n 0 dX9_skips_26 rfl rfl ?_
      have J9 : AW l G mX9_skips d mc ms P 35 [(2, .int (if y6 = x1 then (1 : Int32) else 0)), (0, .ref x0), (1, .int x1)] [.int (if (if y6 = x1 then (1 : Int32) else 0) = 0 then (0 : Int32) else 1), .int y11, .ref x0] h7 c8 s9 := by
        refine aw_iadd dX9_skips_35 ?_
        obtain ⟨fs, he, hk9, hv⟩ := hv
        refine aw_put he rfl in_X9 tyX9_ok nmX9 1 (by decide) q1312 (Or.inl rfl) rfl rfl rfl hk9 rfl dX9_skips_36 ?_
        revert hv; generalize aUp h7 x0 (.inr (8, fs.set 1 (.int (y11 + (if (if y6 = x1 then (1 : Int32) else 0) = 0 then (0 : Int32) else 1))))) = h13; intro hv
        refine aw_iload_n 0 dX9_skips_39 rfl rfl ?_
        obtain ⟨z14, hv⟩ := hv
        exact aw_zret rfl z14.nar dX9_skips_40 hv hc9 hs9
      refine aw_if_eq 34 dX9_skips_27 (by decide) (fun c12 => ?_) (fun c12 => ?_)
      · have J9 := aw_ifT c12 J9
        refine aw_iconst (v := 0) dX9_skips_34 (by decide) ?_
        exact J9
      · have J9 := aw_ifF c12 J9
        refine aw_iconst (v := 1) dX9_skips_30 (by decide) ?_
        refine aw_goto 35 dX9_skips_31 (by decide) ?_
        exact J9
    refine aw_icmp_ne 19 dX9_skips_12 (by decide) (fun c10 => ?_) (fun c10 => ?_)
    · have J9 := aw_ifF c10 J9
      refine aw_iconst (v := 0) dX9_skips_19 (by decide) ?_
      exact J9
    · have J9 := aw_ifT c10 J9
      refine aw_iconst (v := 1) dX9_skips_15 (by decide) ?_
      refine aw_goto 20 dX9_skips_16 (by decide) ?_
      exact J9
def T_X9_readLetter_27 (l : Launch) (G : aG) (d mc ms : Nat) (P : aR → aH → Prop) (x0 : Nat) (xs0 : Int32) (xs1 : Nat) (h : aH) (c s : Nat) : Prop := c ≤ mc → s ≤ ms → AW l G mX9_readLetter d mc ms P 27 [(0, .ref x0)] [.int xs0, .ref xs1] h c s
def V_X9_readLetter_27 (l : Launch) (G : aG) (d mc ms : Nat) (P : aR → aH → Prop) (x0 : Nat) (xs0 : Int32) (xs1 : Nat) (h : aH) (c s : Nat) : Prop :=
  vB xs0 ∧
  vPut h xs1 8 2 (.int xs0) fun h2 =>
  vI h2 x0 8 2 fun y3 =>
  (y3 = 0 → 
    vI h2 x0 8 1 fun y5 =>
    vPut h2 x0 8 1 (.int (y5 + (1 : Int32))) fun h6 =>
    vR h6 x0 8 3 fun a7 =>
    vR h6 a7 1 7 fun a8 =>
    vI h6 x0 8 1 fun y9 =>
    vIs h6 a8 10 (
    vC l G mJ8_charAt (wsN mJ8_charAt) d mc ms [.ref a8, .int (y9 - (1 : Int32))] h6 c s (xP P) (kI fun y10 h11 c12 s13 => 
    P (.inl (some (.int (y10 - (65 : Int32))))) h11))
    ) ∧ (¬ y3 = 0 → 
    P (.inl (some (.int 0))) h2
    )
set_option maxHeartbeats 4000000 in
theorem A_X9_readLetter_27 {l : Launch} {G : aG} {d mc ms : Nat} {P : aR → aH → Prop} {x0 : Nat} {xs0 : Int32} {xs1 : Nat} {h : aH} {c s : Nat} (hl : l.stackTraces = false) (hv : V_X9_readLetter_27 l G d mc ms P x0 xs0 xs1 h c s) : T_X9_readLetter_27 l G d mc ms P x0 xs0 xs1 h c s := by
  intro hc hs
  unfold V_X9_readLetter_27 at hv
  obtain ⟨z1, hv⟩ := hv
  obtain ⟨fs, he, hk9, hv⟩ := hv
  refine aw_put he rfl in_X9 tyX9_ok nmX9 2 (by decide) q1314 (Or.inl rfl) rfl z1.nar z1.fit hk9 rfl dX9_readLetter_27 ?_
  revert hv; generalize aUp h xs1 (.inr (8, fs.set 2 (.int xs0))) = h2; intro hv
  refine aw_aload_n 0 (x := x0) dX9_readLetter_30 rfl rfl ?_
  obtain ⟨fs, y3, he, hx, hv⟩ := hv
  refine aw_get (v := .int y3) he rfl in_X9 2 (by decide) q1314 (Or.inl rfl) hx dX9_readLetter_31 ?_
  refine aw_if_eq 39 dX9_readLetter_34 (by decide) (fun c4 => ?_) (fun c4 => ?_)
  · have hv := hv.1 c4
    refine aw_aload_n 0 (x := x0) dX9_readLetter_39 rfl rfl ?_
    refine aw_dup dX9_readLetter_40 rfl ?_
    obtain ⟨fs, y5, he, hx, hv⟩ := hv
    refine aw_get (v := .int y5) he rfl in_X9 1 (by decide) q1312 (Or.inl rfl) hx dX9_readLetter_41 ?_
    refine aw_iconst (v := 1) dX9_readLetter_44 (by decide) ?_
    refine aw_iadd dX9_readLetter_45 ?_
    obtain ⟨fs, he, hk9, hv⟩ := hv
    refine aw_put he rfl in_X9 tyX9_ok nmX9 1 (by decide) q1312 (Or.inl rfl) rfl rfl rfl hk9 rfl dX9_readLetter_46 ?_
    revert hv; generalize aUp h2 x0 (.inr (8, fs.set 1 (.int (y5 + (1 : Int32))))) = h6; intro hv
    refine aw_aload_n 0 (x := x0) dX9_readLetter_49 rfl rfl ?_
    obtain ⟨fs, a7, he, hx, hv⟩ := hv
    refine aw_get (v := .ref a7) he rfl in_X9 3 (by decide) q1316 (Or.inl rfl) hx dX9_readLetter_50 ?_
    obtain ⟨fs, a8, he, hx, hv⟩ := hv
    refine aw_getN (v := .ref a8) he rfl in_X1 7 (by decide) q441 (Or.inl rfl) hx dX9_readLetter_53 ?_
    refine aw_aload_n 0 (x := x0) dX9_readLetter_56 rfl rfl ?_
    obtain ⟨fs, y9, he, hx, hv⟩ := hv
    refine aw_get (v := .int y9) he rfl in_X9 1 (by decide) q1312 (Or.inl rfl) hx dX9_readLetter_57 ?_
    refine aw_iconst (v := 1) dX9_readLetter_60 (by decide) ?_
    refine aw_isub dX9_readLetter_61 ?_
    obtain ⟨⟨fs, he⟩, hv⟩ := hv
    obtain ⟨d2, mc2, ms2, Q, hM, hd9, hc9, hs9, hv, hx⟩ := hv
    refine aw_callV (rest := []) hM he rfl rfl nJ8_charAt q1225 q1226 q1227 q134 q1228 dX9_readLetter_62 rfl hd9 (by decide) (Nat.le_of_ble_eq_true rfl) hc9 hs9 ?_ ?_
    rotate_left
    · exact fun E h2 q => aX_out (hx E h2 q) rfl hc9 hs9
    intro v9 h11 hq
    have hv := hv v9 h11 hq
    obtain ⟨y10, rfl, hv⟩ := hv
    refine aw_eqv (pc2 := 65) (st2 := [.int y10]) rfl rfl rfl rfl ?_
    revert hv hc9 hs9; generalize c + mc2 = c12; generalize s + ms2 = s13; intro hc9 hs9 hv
    refine aw_bipush (v := 65) dX9_readLetter_65 (by decide) ?_
    refine aw_isub dX9_readLetter_67 ?_
    exact aw_iret rfl dX9_readLetter_68 hv hc9 hs9
  · have hv := hv.2 c4
    refine aw_iconst (v := 0) dX9_readLetter_37 (by decide) ?_
    exact aw_iret rfl dX9_readLetter_38 hv hc hs
def V_X9_readLetter_0 (l : Launch) (G : aG) (d mc ms : Nat) (P : aR → aH → Prop) (x0 : Nat) (h : aH) : Prop :=
  vI h x0 8 2 fun y14 =>
  (¬ y14 = 0 → 
    T_X9_readLetter_27 l G d mc ms P x0 1 x0 h 0 0
    ) ∧ (y14 = 0 → 
    vIs h x0 8 (
    vC l G mX9_next (wsN mX9_next) d mc ms [.ref x0] h 0 0 (xP P) (kI fun y16 h17 c18 s19 => 
    vC l G mX1_isIn (wsN mX1_isIn) d mc ms [.int y16, .int 65, .int 68] h17 c18 s19 (xP P) (kI fun y20 h21 c22 s23 => 
    T_X9_readLetter_27 l G d mc ms P x0 (if y20 = 0 then (1 : Int32) else 0) x0 h21 c22 s23)))
    )
set_option maxHeartbeats 4000000 in
theorem A_X9_readLetter {l : Launch} {G : aG} {d mc ms : Nat} {P : aR → aH → Prop} {x0 : Nat} {h : aH} (hl : l.stackTraces = false) (hv : V_X9_readLetter_0 l G d mc ms P x0 h) : aC l G mX9_readLetter (wsN mX9_readLetter) d mc ms [.ref x0] h P := by
  refine aC_ofF (M := mX9_readLetter) rfl pX9_readLetter (Nat.le_of_ble_eq_true rfl) hl ?_
  refine aw_eqv (lv2 := [(0, .ref x0)]) rfl rfl rfl rfl ?_
  unfold V_X9_readLetter_0 at hv
  refine aw_aload_n 0 (x := x0) dX9_readLetter_0 rfl rfl ?_
  refine aw_aload_n 0 (x := x0) dX9_readLetter_1 rfl rfl ?_
  obtain ⟨fs, y14, he, hx, hv⟩ := hv
  refine aw_get (v := .int y14) he rfl in_X9 2 (by decide) q1314 (Or.inl rfl) hx dX9_readLetter_2 ?_
  refine aw_if_ne 22 dX9_readLetter_5 (by decide) (fun c15 => ?_) (fun c15 => ?_)
  · have hv := hv.1 c15
    refine aw_iconst (v := 1) dX9_readLetter_22 (by decide) ?_
    refine aw_goto 27 dX9_readLetter_23 (by decide) ?_
    exact hv (Nat.zero_le _) (Nat.zero_le _)
  · have hv := hv.2 c15
    refine aw_aload_n 0 (x := x0) dX9_readLetter_8 rfl rfl ?_
    obtain ⟨⟨fs, he⟩, hv⟩ := hv
    obtain ⟨d2, mc2, ms2, Q, hM, hd9, hc9, hs9, hv, hx⟩ := hv
    refine aw_callV (rest := [.ref x0]) hM he rfl rfl nX9_next q1220 q1222 qs34 q151 q1223 dX9_readLetter_9 rfl hd9 (by decide) (Nat.le_of_ble_eq_true rfl) hc9 hs9 ?_ ?_
    rotate_left
    · exact fun E h2 q => aX_out (hx E h2 q) rfl hc9 hs9
    intro v9 h17 hq
    have hv := hv v9 h17 hq
    obtain ⟨y16, rfl, hv⟩ := hv
    refine aw_eqv (pc2 := 12) (st2 := [.int y16, .ref x0]) rfl rfl rfl rfl ?_
    revert hv hc9 hs9; generalize 0 + mc2 = c18; generalize 0 + ms2 = s19; intro hc9 hs9 hv
    refine aw_bipush (v := 65) dX9_readLetter_12 (by decide) ?_
    refine aw_bipush (v := 68) dX9_readLetter_14 (by decide) ?_
    obtain ⟨d2, mc2, ms2, Q, hM, hd9, hc9, hs9, hv, hx⟩ := hv
    refine aw_callSN (rest := [.ref x0]) hM nX1_isIn q1238 q1239 q119 q1240 dX9_readLetter_16 rfl hd9 (by decide) (Nat.le_of_ble_eq_true rfl) hc9 hs9 ?_ ?_
    rotate_left
    · exact fun E h2 q => aX_out (hx E h2 q) rfl hc9 hs9
    intro v9 h21 hq
    have hv := hv v9 h21 hq
    obtain ⟨y20, rfl, hv⟩ := hv
    refine aw_eqv (pc2 := 19) (st2 := [.int y20, .ref x0]) rfl rfl rfl rfl ?_
    revert hv hc9 hs9; generalize c18 + mc2 = c22; generalize s19 + ms2 = s23; intro hc9 hs9 hv
    have J9 : AW l G mX9_readLetter d mc ms P 27 [(0, .ref x0)] [.int (if y20 = 0 then (1 : Int32) else 0), .ref x0] h21 c22 s23 := by
      exact hv hc9 hs9
    refine aw_if_ne 26 dX9_readLetter_19 (by decide) (fun c24 => ?_) (fun c24 => ?_)
    · have J9 := aw_ifF c24 J9
      refine aw_iconst (v := 0) dX9_readLetter_26 (by decide) ?_
      exact J9
    · have J9 := aw_ifT c24 J9
      refine aw_iconst (v := 1) dX9_readLetter_22 (by decide) ?_
      refine aw_goto 27 dX9_readLetter_23 (by decide) ?_
      exact J9
def V_X9_readThing_0 (l : Launch) (G : aG) (d mc ms : Nat) (P : aR → aH → Prop) (x0 : Nat) (h : aH) : Prop :=
  vIs h x0 8 (
  vC l G mX9_skips (wsN mX9_skips) d mc ms [.ref x0, .int 46] h 0 0 (xP P) (kI fun y1 h2 c3 s4 => 
  (y1 = 0 → 
    vIs h2 x0 8 (
    vC l G mX9_readLetter (wsN mX9_readLetter) d mc ms [.ref x0] h2 c3 s4 (xP P) (kI fun y6 h7 c8 s9 => 
    P (.inl (some (.int y6))) h7))
    ) ∧ (¬ y1 = 0 → 
    P (.inl (some (.int 5))) h2
    )))
set_option maxHeartbeats 4000000 in
theorem A_X9_readThing {l : Launch} {G : aG} {d mc ms : Nat} {P : aR → aH → Prop} {x0 : Nat} {h : aH} (hl : l.stackTraces = false) (hv : V_X9_readThing_0 l G d mc ms P x0 h) : aC l G mX9_readThing (wsN mX9_readThing) d mc ms [.ref x0] h P := by
  refine aC_ofF (M := mX9_readThing) rfl pX9_readThing (Nat.le_of_ble_eq_true rfl) hl ?_
  refine aw_eqv (lv2 := [(0, .ref x0)]) rfl rfl rfl rfl ?_
  unfold V_X9_readThing_0 at hv
  refine aw_aload_n 0 (x := x0) dX9_readThing_0 rfl rfl ?_
  refine aw_bipush (v := 46) dX9_readThing_1 (by decide) ?_
  obtain ⟨⟨fs, he⟩, hv⟩ := hv
  obtain ⟨d2, mc2, ms2, Q, hM, hd9, hc9, hs9, hv, hx⟩ := hv
  refine aw_callV (rest := []) hM he rfl rfl nX9_skips q1292 q1294 qs35 q151 q1295 dX9_readThing_3 rfl hd9 (by decide) (Nat.le_of_ble_eq_true rfl) hc9 hs9 ?_ ?_
  rotate_left
  · exact fun E h2 q => aX_out (hx E h2 q) rfl hc9 hs9
  intro v9 h2 hq
  have hv := hv v9 h2 hq
  obtain ⟨y1, rfl, hv⟩ := hv
  refine aw_eqv (pc2 := 6) (st2 := [.int y1]) rfl rfl rfl rfl ?_
  revert hv hc9 hs9; generalize 0 + mc2 = c3; generalize 0 + ms2 = s4; intro hc9 hs9 hv
  refine aw_if_eq 13 dX9_readThing_6 (by decide) (fun c5 => ?_) (fun c5 => ?_)
  · have hv := hv.1 c5
    refine aw_aload_n 0 (x := x0) dX9_readThing_13 rfl rfl ?_
    obtain ⟨⟨fs, he⟩, hv⟩ := hv
    obtain ⟨d2, mc2, ms2, Q, hM, hd9, hc9, hs9, hv, hx⟩ := hv
    refine aw_callV (rest := []) hM he rfl rfl nX9_readLetter q1296 q1298 qs36 q151 q1299 dX9_readThing_14 rfl hd9 (by decide) (Nat.le_of_ble_eq_true rfl) hc9 hs9 ?_ ?_
    rotate_left
    · exact fun E h2 q => aX_out (hx E h2 q) rfl hc9 hs9
    intro v9 h7 hq
    have hv := hv v9 h7 hq
    obtain ⟨y6, rfl, hv⟩ := hv
    refine aw_eqv (pc2 := 17) (st2 := [.int y6]) rfl rfl rfl rfl ?_
    revert hv hc9 hs9; generalize c3 + mc2 = c8; generalize s4 + ms2 = s9; intro hc9 hs9 hv
    exact aw_iret rfl dX9_readThing_17 hv hc9 hs9
  · have hv := hv.2 c5
    refine aw_iconst (v := 5) dX9_readThing_9 (by decide) ?_
    refine aw_goto 17 dX9_readThing_10 (by decide) ?_
    exact aw_iret rfl dX9_readThing_17 hv hc9 hs9
def T_X9_readCommand_15 (l : Launch) (G : aG) (d mc ms : Nat) (P : aR → aH → Prop) (x0 : Nat) (xs0 : Int32) (h : aH) (c s : Nat) : Prop := c ≤ mc → s ≤ ms → AW l G mX9_readCommand d mc ms P 15 [(0, .ref x0)] [.int xs0] h c s
def T_X9_readCommand_54 (l : Launch) (G : aG) (d mc ms : Nat) (P : aR → aH → Prop) (x0 : Nat) (x1 : Int32) (x2 : Int32) (xs0 : Int32) (xs1 : Nat) (h : aH) (c s : Nat) : Prop := c ≤ mc → s ≤ ms → AW l G mX9_readCommand d mc ms P 54 [(0, .ref x0), (1, .int x1), (2, .int x2)] [.int xs0, .ref xs1] h c s
def T_X9_readCommand_98 (l : Launch) (G : aG) (d mc ms : Nat) (P : aR → aH → Prop) (x0 : Nat) (x1 : Int32) (x2 : Int32) (xs0 : Int32) (h : aH) (c s : Nat) : Prop := c ≤ mc → s ≤ ms → AW l G mX9_readCommand d mc ms P 98 [(0, .ref x0), (1, .int x1), (2, .int x2)] [.int xs0] h c s
def T_X9_readCommand_133 (l : Launch) (G : aG) (d mc ms : Nat) (P : aR → aH → Prop) (x0 : Nat) (x1 : Int32) (x2 : Int32) (x3 : Int32) (xs0 : Int32) (h : aH) (c s : Nat) : Prop := c ≤ mc → s ≤ ms → AW l G mX9_readCommand d mc ms P 133 [(0, .ref x0), (1, .int x1), (2, .int x2), (3, .int x3)] [.int xs0] h c s
def V_X9_readCommand_15 (l : Launch) (G : aG) (d mc ms : Nat) (P : aR → aH → Prop) (x0 : Nat) (xs0 : Int32) (h : aH) (c s : Nat) : Prop :=
  vI h x0 8 2 fun y1 =>
  (y1 = 0 → 
    vIs h x0 8 (
    vC l G mX9_next (wsN mX9_next) d mc ms [.ref x0] h c s (xP P) (kI fun y3 h4 c5 s6 => 
    vI h4 x0 8 2 fun y7 =>
    (¬ y7 = 0 → 
      T_X9_readCommand_54 l G d mc ms P x0 xs0 y3 1 x0 h4 c5 s6
      ) ∧ (y7 = 0 → 
      vC l G mJ9_indexOf (wsN mJ9_indexOf) d mc ms [.ref G.2.1.2.1, .int y3] h4 c5 s6 (xP P) (kI fun y9 h10 c11 s12 => 
      T_X9_readCommand_54 l G d mc ms P x0 xs0 y3 (if 0 ≤ y9 then (0 : Int32) else 1) x0 h10 c11 s12)
      )))
    ) ∧ (¬ y1 = 0 → 
    vI h x0 8 2 fun y14 =>
    (¬ y14 = 0 → 
      T_X9_readCommand_54 l G d mc ms P x0 xs0 0 1 x0 h c s
      ) ∧ (y14 = 0 → 
      vC l G mJ9_indexOf (wsN mJ9_indexOf) d mc ms [.ref G.2.1.2.1, .int 0] h c s (xP P) (kI fun y16 h17 c18 s19 => 
      T_X9_readCommand_54 l G d mc ms P x0 xs0 0 (if 0 ≤ y16 then (0 : Int32) else 1) x0 h17 c18 s19)
      )
    )
set_option maxHeartbeats 4000000 in
theorem A_X9_readCommand_15 {l : Launch} {G : aG} {d mc ms : Nat} {P : aR → aH → Prop} {x0 : Nat} {xs0 : Int32} {h : aH} {c s : Nat} (hl : l.stackTraces = false) (hv : V_X9_readCommand_15 l G d mc ms P x0 xs0 h c s) : T_X9_readCommand_15 l G d mc ms P x0 xs0 h c s := by
  intro hc hs
  unfold V_X9_readCommand_15 at hv
  refine aw_istore_n (lv' := [(1, .int xs0), (0, .ref x0)]) dX9_readCommand_15 rfl (Nat.le_of_ble_eq_true rfl) rfl ?_
  refine aw_aload_n 1 (x := x0) dX9_readCommand_16 rfl rfl ?_
  obtain ⟨fs, y1, he, hx, hv⟩ := hv
  refine aw_get (v := .int y1) he rfl in_X9 2 (by decide) q1314 (Or.inl rfl) hx dX9_readCommand_17 ?_
  refine aw_if_eq 27 dX9_readCommand_20 (by decide) (fun c2 => ?_) (fun c2 => ?_)
  · have hv := hv.1 c2
    refine aw_aload_n 1 (x := x0) dX9_readCommand_27 rfl rfl ?_
    obtain ⟨⟨fs, he⟩, hv⟩ := hv
    obtain ⟨d2, mc2, ms2, Q, hM, hd9, hc9, hs9, hv, hx⟩ := hv
    refine aw_callV (rest := []) hM he rfl rfl nX9_next q1220 q1222 qs34 q151 q1223 dX9_readCommand_28 rfl hd9 (by decide) (Nat.le_of_ble_eq_true rfl) hc9 hs9 ?_ ?_
    rotate_left
    · exact fun E h2 q => aX_out (hx E h2 q) rfl hc9 hs9
    intro v9 h4 hq
    have hv := hv v9 h4 hq
    obtain ⟨y3, rfl, hv⟩ := hv
    refine aw_eqv (pc2 := 31) (st2 := [.int y3]) rfl rfl rfl rfl ?_
    revert hv hc9 hs9; generalize c + mc2 = c5; generalize s + ms2 = s6; intro hc9 hs9 hv
    refine aw_istore_n (lv' := [(2, .int y3), (1, .int xs0), (0, .ref x0)]) dX9_readCommand_31 rfl (Nat.le_of_ble_eq_true rfl) rfl ?_
    refine aw_aload_n 2 (x := x0) dX9_readCommand_32 rfl rfl ?_
    refine aw_aload_n 2 (x := x0) dX9_readCommand_33 rfl rfl ?_
    obtain ⟨fs, y7, he, hx, hv⟩ := hv
    refine aw_get (v := .int y7) he rfl in_X9 2 (by decide) q1314 (Or.inl rfl) hx dX9_readCommand_34 ?_
    refine aw_if_ne 49 dX9_readCommand_37 (by decide) (fun c8 => ?_) (fun c8 => ?_)
    · have hv := hv.1 c8
      refine aw_iconst (v := 1) dX9_readCommand_49 (by decide) ?_
      refine aw_goto 54 dX9_readCommand_50 (by decide) ?_
      refine aw_sub [2, 1, 0] rfl ?_
      exact hv hc9 hs9
    · have hv := hv.2 c8
      refine aw_ldcS rfl rfl dX9_readCommand_40 ?_
      refine aw_iload_n 0 dX9_readCommand_42 rfl rfl ?_
      obtain ⟨d2, mc2, ms2, Q, hM, hd9, hc9, hs9, hv, hx⟩ := hv
      refine aw_callT (rest := [.ref x0]) hM rfl nJ9_indexOf q1242 q1243 q1244 q135 q1245 dX9_readCommand_43 rfl hd9 (by decide) (Nat.le_of_ble_eq_true rfl) hc9 hs9 ?_ ?_
      rotate_left
      · exact fun E h2 q => aX_out (hx E h2 q) rfl hc9 hs9
      intro v9 h10 hq
      have hv := hv v9 h10 hq
      obtain ⟨y9, rfl, hv⟩ := hv
      refine aw_eqv (pc2 := 46) (st2 := [.int y9, .ref x0]) rfl rfl rfl rfl ?_
      revert hv hc9 hs9; generalize c5 + mc2 = c11; generalize s6 + ms2 = s12; intro hc9 hs9 hv
      have J9 : AW l G mX9_readCommand d mc ms P 54 [(2, .int y3), (1, .int xs0), (0, .ref x0)] [.int (if 0 ≤ y9 then (0 : Int32) else 1), .ref x0] h10 c11 s12 := by
        refine aw_sub [2, 1, 0] rfl ?_
        exact hv hc9 hs9
      refine aw_if_ge 53 dX9_readCommand_46 (by decide) (fun c13 => ?_) (fun c13 => ?_)
      · have J9 := aw_ifT c13 J9
        refine aw_iconst (v := 0) dX9_readCommand_53 (by decide) ?_
        exact J9
      · have J9 := aw_ifF c13 J9
        refine aw_iconst (v := 1) dX9_readCommand_49 (by decide) ?_
        refine aw_goto 54 dX9_readCommand_50 (by decide) ?_
        exact J9
  · have hv := hv.2 c2
    refine aw_iconst (v := 0) dX9_readCommand_23 (by decide) ?_
    refine aw_goto 31 dX9_readCommand_24 (by decide) ?_
    refine aw_istore_n (lv' := [(2, .int 0), (1, .int xs0), (0, .ref x0)]) dX9_readCommand_31 rfl (Nat.le_of_ble_eq_true rfl) rfl ?_
    refine aw_aload_n 2 (x := x0) dX9_readCommand_32 rfl rfl ?_
    refine aw_aload_n 2 (x := x0) dX9_readCommand_33 rfl rfl ?_
    obtain ⟨fs, y14, he, hx, hv⟩ := hv
    refine aw_get (v := .int y14) he rfl in_X9 2 (by decide) q1314 (Or.inl rfl) hx dX9_readCommand_34 ?_
    refine aw_if_ne 49 dX9_readCommand_37 (by decide) (fun c15 => ?_) (fun c15 => ?_)
    · have hv := hv.1 c15
      refine aw_iconst (v := 1) dX9_readCommand_49 (by decide) ?_
      refine aw_goto 54 dX9_readCommand_50 (by decide) ?_
      refine aw_sub [2, 1, 0] rfl ?_
      exact hv hc hs
    · have hv := hv.2 c15
      refine aw_ldcS rfl rfl dX9_readCommand_40 ?_
      refine aw_iload_n 0 dX9_readCommand_42 rfl rfl ?_
      obtain ⟨d2, mc2, ms2, Q, hM, hd9, hc9, hs9, hv, hx⟩ := hv
      refine aw_callT (rest := [.ref x0]) hM rfl nJ9_indexOf q1242 q1243 q1244 q135 q1245 dX9_readCommand_43 rfl hd9 (by decide) (Nat.le_of_ble_eq_true rfl) hc9 hs9 ?_ ?_
      rotate_left
      · exact fun E h2 q => aX_out (hx E h2 q) rfl hc9 hs9
      intro v9 h17 hq
      have hv := hv v9 h17 hq
      obtain ⟨y16, rfl, hv⟩ := hv
      refine aw_eqv (pc2 := 46) (st2 := [.int y16, .ref x0]) rfl rfl rfl rfl ?_
      revert hv hc9 hs9; generalize c + mc2 = c18; generalize s + ms2 = s19; intro hc9 hs9 hv
      have J9 : AW l G mX9_readCommand d mc ms P 54 [(2, .int 0), (1, .int xs0), (0, .ref x0)] [.int (if 0 ≤ y16 then (0 : Int32) else 1), .ref x0] h17 c18 s19 := by
        refine aw_sub [2, 1, 0] rfl ?_
        exact hv hc9 hs9
      refine aw_if_ge 53 dX9_readCommand_46 (by decide) (fun c20 => ?_) (fun c20 => ?_)
      · have J9 := aw_ifT c20 J9
        refine aw_iconst (v := 0) dX9_readCommand_53 (by decide) ?_
        exact J9
      · have J9 := aw_ifF c20 J9
        refine aw_iconst (v := 1) dX9_readCommand_49 (by decide) ?_
        refine aw_goto 54 dX9_readCommand_50 (by decide) ?_
        exact J9
def V_X9_readCommand_54 (l : Launch) (G : aG) (d mc ms : Nat) (P : aR → aH → Prop) (x0 : Nat) (x1 : Int32) (x2 : Int32) (xs0 : Int32) (xs1 : Nat) (h : aH) (c s : Nat) : Prop :=
  vB xs0 ∧
  vPut h xs1 8 2 (.int xs0) fun h22 =>
  vI h22 x0 8 1 fun y23 =>
  vI h22 x0 8 2 fun y24 =>
  vPut h22 x0 8 1 (.int (y23 + (if y24 = 0 then (1 : Int32) else 0))) fun h26 =>
  (¬ x2 = 61 → 
    T_X9_readCommand_98 l G d mc ms P x0 x1 x2 0 h26 c s
    ) ∧ (x2 = 61 → 
    vIs h26 x0 8 (
    vC l G mX9_skips (wsN mX9_skips) d mc ms [.ref x0, .int 39] h26 c s (xP P) (kI fun y28 h29 c30 s31 => 
    T_X9_readCommand_98 l G d mc ms P x0 x1 x2 (if y28 = 0 then (0 : Int32) else 1) h29 c30 s31))
    )
set_option maxHeartbeats 4000000 in
theorem A_X9_readCommand_54 {l : Launch} {G : aG} {d mc ms : Nat} {P : aR → aH → Prop} {x0 : Nat} {x1 : Int32} {x2 : Int32} {xs0 : Int32} {xs1 : Nat} {h : aH} {c s : Nat} (hl : l.stackTraces = false) (hv : V_X9_readCommand_54 l G d mc ms P x0 x1 x2 xs0 xs1 h c s) : T_X9_readCommand_54 l G d mc ms P x0 x1 x2 xs0 xs1 h c s := by
  intro hc hs
  unfold V_X9_readCommand_54 at hv
  obtain ⟨z21, hv⟩ := hv
  obtain ⟨fs, he, hk9, hv⟩ := hv
  refine aw_put he rfl in_X9 tyX9_ok nmX9 2 (by decide) q1314 (Or.inl rfl) rfl z21.nar z21.fit hk9 rfl dX9_readCommand_54 ?_
  revert hv; generalize aUp h xs1 (.inr (8, fs.set 2 (.int xs0))) = h22; intro hv
  refine aw_aload_n 0 (x := x0) dX9_readCommand_57 rfl rfl ?_
  refine aw_dup dX9_readCommand_58 rfl ?_
  obtain ⟨fs, y23, he, hx, hv⟩ := hv
  refine aw_get (v := .int y23) he rfl in_X9 1 (by decide) q1312 (Or.inl rfl) hx dX9_readCommand_59 ?_
  refine aw_aload_n 0 (x := x0) dX9_readCommand_62 rfl rfl ?_
  obtain ⟨fs, y24, he, hx, hv⟩ := hv
  refine aw_get (v := .int y24) he rfl in_X9 2 (by decide) q1314 (Or.inl rfl) hx dX9_readCommand_63 ?_
  have J9 : AW l G mX9_readCommand d mc ms P 74 [(0, .ref x0), (1, .int x1), (2, .int x2)] [.int (if y24 = 0 then (1 : Int32) else 0), .int y23, .ref x0] h22 c s := by
    refine aw_iadd dX9_readCommand_74 ?_
    obtain ⟨fs, he, hk9, hv⟩ := hv
    refine aw_put he rfl in_X9 tyX9_ok nmX9 1 (by decide) q1312 (Or.inl rfl) rfl rfl rfl hk9 rfl dX9_readCommand_75 ?_
    revert hv; generalize aUp h22 x0 (.inr (8, fs.set 1 (.int (y23 + (if y24 = 0 then (1 : Int32) else 0))))) = h26; intro hv
    refine aw_iload_n 2 dX9_readCommand_78 rfl rfl ?_
    refine aw_bipush (v := 61) dX9_readCommand_79 (by decide) ?_
    refine aw_icmp_ne 97 dX9_readCommand_81 (by decide) (fun c27 => ?_) (fun c27 => ?_)
    · have hv := hv.1 c27
      refine aw_iconst (v := 0) dX9_readCommand_97 (by decide) ?_
      exact hv hc hs
    · have hv := hv.2 c27
      refine aw_aload_n 0 (x := x0) dX9_readCommand_84 rfl rfl ?_
      refine aw_bipush (v := 39) dX9_readCommand_85 (by decide) ?_
      obtain ⟨⟨fs, he⟩, hv⟩ := hv
      obtain ⟨d2, mc2, ms2, Q, hM, hd9, hc9, hs9, hv, hx⟩ := hv
      refine aw_callV (rest := []) hM he rfl rfl nX9_skips q1292 q1294 qs35 q151 q1295 dX9_readCommand_87 rfl hd9 (by decide) (Nat.le_of_ble_eq_true rfl) hc9 hs9 ?_ ?_
      rotate_left
      · exact fun E h2 q => aX_out (hx E h2 q) rfl hc9 hs9
      intro v9 h29 hq
      have hv := hv v9 h29 hq
      obtain ⟨y28, rfl, hv⟩ := hv
      refine aw_eqv (pc2 := 90) (st2 := [.int y28]) rfl rfl rfl rfl ?_
      revert hv hc9 hs9; generalize c + mc2 = c30; generalize s + ms2 = s31; intro hc9 hs9 hv
      have J9 : AW l G mX9_readCommand d mc ms P 98 [(0, .ref x0), (1, .int x1), (2, .int x2)] [.int (if y28 = 0 then (0 : Int32) else 1)] h29 c30 s31 := by
        exact hv hc9 hs9
      refine aw_if_eq 97 dX9_readCommand_90 (by decide) (fun c32 => ?_) (fun c32 => ?_)
      · have J9 := aw_ifT c32 J9
        refine aw_iconst (v := 0) dX9_readCommand_97 (by decide) ?_
        exact J9
      · have J9 := aw_ifF c32 J9
        refine aw_iconst (v := 1) dX9_readCommand_93 (by decide) ?_
        refine aw_goto 98 dX9_readCommand_94 (by decide) ?_
        exact J9
  refine aw_if_eq 73 dX9_readCommand_66 (by decide) (fun c25 => ?_) (fun c25 => ?_)
  · have J9 := aw_ifT c25 J9
    refine aw_iconst (v := 1) dX9_readCommand_73 (by decide) ?_
    exact J9
  · have J9 := aw_ifF c25 J9
    refine aw_iconst (v := 0) dX9_readCommand_69 (by decide) ?_
    refine aw_goto 74 dX9_readCommand_70 (by decide) ?_
    exact J9
def V_X9_readCommand_98 (l : Launch) (G : aG) (d mc ms : Nat) (P : aR → aH → Prop) (x0 : Nat) (x1 : Int32) (x2 : Int32) (xs0 : Int32) (h : aH) (c s : Nat) : Prop :=
  vI h x0 8 2 fun y33 =>
  (¬ y33 = 0 → 
    T_X9_readCommand_133 l G d mc ms P x0 x1 x2 xs0 0 h c s
    ) ∧ (y33 = 0 → 
    (¬ x2 = 42 → 
      (¬ x2 = 61 → 
        vIs h x0 8 (
        vC l G mX9_readThing (wsN mX9_readThing) d mc ms [.ref x0] h c s (xP P) (kI fun y37 h38 c39 s40 => 
        T_X9_readCommand_133 l G d mc ms P x0 x1 x2 xs0 y37 h38 c39 s40))
        ) ∧ (x2 = 61 → 
        vIs h x0 8 (
        vC l G mX9_readLetter (wsN mX9_readLetter) d mc ms [.ref x0] h c s (xP P) (kI fun y41 h42 c43 s44 => 
        T_X9_readCommand_133 l G d mc ms P x0 x1 x2 xs0 y41 h42 c43 s44))
        )
      ) ∧ (x2 = 42 → 
      T_X9_readCommand_133 l G d mc ms P x0 x1 x2 xs0 0 h c s
      )
    )
set_option maxHeartbeats 4000000 in
theorem A_X9_readCommand_98 {l : Launch} {G : aG} {d mc ms : Nat} {P : aR → aH → Prop} {x0 : Nat} {x1 : Int32} {x2 : Int32} {xs0 : Int32} {h : aH} {c s : Nat} (hl : l.stackTraces = false) (hv : V_X9_readCommand_98 l G d mc ms P x0 x1 x2 xs0 h c s) : T_X9_readCommand_98 l G d mc ms P x0 x1 x2 xs0 h c s := by
  intro hc hs
  unfold V_X9_readCommand_98 at hv
  refine aw_istore_n (lv' := [(3, .int xs0), (0, .ref x0), (1, .int x1), (2, .int x2)]) dX9_readCommand_98 rfl (Nat.le_of_ble_eq_true rfl) rfl ?_
  refine aw_aload_n 1 (x := x0) dX9_readCommand_99 rfl rfl ?_
  obtain ⟨fs, y33, he, hx, hv⟩ := hv
  refine aw_get (v := .int y33) he rfl in_X9 2 (by decide) q1314 (Or.inl rfl) hx dX9_readCommand_100 ?_
  refine aw_if_ne 112 dX9_readCommand_103 (by decide) (fun c34 => ?_) (fun c34 => ?_)
  · have hv := hv.1 c34
    refine aw_iconst (v := 0) dX9_readCommand_112 (by decide) ?_
    refine aw_goto 133 dX9_readCommand_113 (by decide) ?_
    refine aw_sub [1, 2, 3, 0] rfl ?_
    exact hv hc hs
  · have hv := hv.2 c34
    refine aw_iload_n 3 dX9_readCommand_106 rfl rfl ?_
    refine aw_bipush (v := 42) dX9_readCommand_107 (by decide) ?_
    refine aw_icmp_ne 116 dX9_readCommand_109 (by decide) (fun c35 => ?_) (fun c35 => ?_)
    · have hv := hv.1 c35
      refine aw_iload_n 3 dX9_readCommand_116 rfl rfl ?_
      refine aw_bipush (v := 61) dX9_readCommand_117 (by decide) ?_
      refine aw_icmp_ne 129 dX9_readCommand_119 (by decide) (fun c36 => ?_) (fun c36 => ?_)
      · have hv := hv.1 c36
        refine aw_aload_n 1 (x := x0) dX9_readCommand_129 rfl rfl ?_
        obtain ⟨⟨fs, he⟩, hv⟩ := hv
        obtain ⟨d2, mc2, ms2, Q, hM, hd9, hc9, hs9, hv, hx⟩ := hv
        refine aw_callV (rest := []) hM he rfl rfl nX9_readThing q1300 q1302 qs37 q151 q1303 dX9_readCommand_130 rfl hd9 (by decide) (Nat.le_of_ble_eq_true rfl) hc9 hs9 ?_ ?_
        rotate_left
        · exact fun E h2 q => aX_out (hx E h2 q) rfl hc9 hs9
        intro v9 h38 hq
        have hv := hv v9 h38 hq
        obtain ⟨y37, rfl, hv⟩ := hv
        refine aw_eqv (pc2 := 133) (st2 := [.int y37]) rfl rfl rfl rfl ?_
        revert hv hc9 hs9; generalize c + mc2 = c39; generalize s + ms2 = s40; intro hc9 hs9 hv
        refine aw_sub [1, 2, 3, 0] rfl ?_
        exact hv hc9 hs9
      · have hv := hv.2 c36
        refine aw_aload_n 1 (x := x0) dX9_readCommand_122 rfl rfl ?_
        obtain ⟨⟨fs, he⟩, hv⟩ := hv
        obtain ⟨d2, mc2, ms2, Q, hM, hd9, hc9, hs9, hv, hx⟩ := hv
        refine aw_callV (rest := []) hM he rfl rfl nX9_readLetter q1296 q1298 qs36 q151 q1299 dX9_readCommand_123 rfl hd9 (by decide) (Nat.le_of_ble_eq_true rfl) hc9 hs9 ?_ ?_
        rotate_left
        · exact fun E h2 q => aX_out (hx E h2 q) rfl hc9 hs9
        intro v9 h42 hq
        have hv := hv v9 h42 hq
        obtain ⟨y41, rfl, hv⟩ := hv
        refine aw_eqv (pc2 := 126) (st2 := [.int y41]) rfl rfl rfl rfl ?_
        revert hv hc9 hs9; generalize c + mc2 = c43; generalize s + ms2 = s44; intro hc9 hs9 hv
        refine aw_goto 133 dX9_readCommand_126 (by decide) ?_
        refine aw_sub [1, 2, 3, 0] rfl ?_
        exact hv hc9 hs9
    · have hv := hv.2 c35
      refine aw_iconst (v := 0) dX9_readCommand_112 (by decide) ?_
      refine aw_goto 133 dX9_readCommand_113 (by decide) ?_
      refine aw_sub [1, 2, 3, 0] rfl ?_
      exact hv hc hs
def V_X9_readCommand_133 (l : Launch) (G : aG) (d mc ms : Nat) (P : aR → aH → Prop) (x0 : Nat) (x1 : Int32) (x2 : Int32) (x3 : Int32) (xs0 : Int32) (h : aH) (c s : Nat) : Prop :=
  vNewA .int h (4 : Int32) mc ms c s fun a45 h46 c47 s48 => h a45 = none →
  vSt .int h46 a45 (0 : Int32) x2 fun h50 =>
  vSt .int h50 a45 (1 : Int32) x1 fun h51 =>
  vSt .int h51 a45 (2 : Int32) xs0 fun h52 =>
  vSt .int h52 a45 (3 : Int32) x3 fun h53 =>
  vR h53 x0 8 0 fun a54 =>
  vIs h53 a54 9 (
  vC l G mJ2_add (wsN mJ2_add) d mc ms [.ref a54, .ref a45] h53 c47 s48 (xP P) (kI fun y55 h56 c57 s58 => 
  P (.inl none) h56))
set_option maxHeartbeats 4000000 in
theorem A_X9_readCommand_133 {l : Launch} {G : aG} {d mc ms : Nat} {P : aR → aH → Prop} {x0 : Nat} {x1 : Int32} {x2 : Int32} {x3 : Int32} {xs0 : Int32} {h : aH} {c s : Nat} (hl : l.stackTraces = false) (hv : V_X9_readCommand_133 l G d mc ms P x0 x1 x2 x3 xs0 h c s) : T_X9_readCommand_133 l G d mc ms P x0 x1 x2 x3 xs0 h c s := by
  intro hc hs
  unfold V_X9_readCommand_133 at hv
  refine aw_istore (lv' := [(4, .int xs0), (0, .ref x0), (1, .int x1), (2, .int x2), (3, .int x3)]) dX9_readCommand_133 (Nat.le_of_ble_eq_true rfl) rfl ?_
  refine aw_iconst (v := 4) dX9_readCommand_135 (by decide) ?_
  obtain ⟨N9, hn9, hN9, hb9, hc9, hs9, hv⟩ := hv
  refine aw_newa (atype := .int) (ty := .int) (a0 := (N9, .inl fun _ => 0)) rfl 0 rfl q215 (fun _ => rfl) hn9 hN9 (by show _ * 4 ≤ _; omega) (fun _ _ h9 => h9) hc9 hs9 dX9_readCommand_136 (fun a45 g49 => ?_)
  have hv := hv a45 g49 g49
  refine aw_eqv (pc2 := 138) (st2 := [.ref a45]) rfl rfl rfl rfl ?_
  revert hv hc9 hs9; generalize aUp h a45 (.inl (.int, (N9, .inl fun _ => 0))) = h46; generalize c + 1 = c47; generalize s + N9 = s48; intro hc9 hs9 hv
  refine aw_dup dX9_readCommand_138 rfl ?_
  refine aw_iconst (v := 0) dX9_readCommand_139 (by decide) ?_
  refine aw_iload_n 3 dX9_readCommand_140 rfl rfl ?_
  obtain ⟨n9, f9, he, hin, hv⟩ := hv
  refine aw_iast he hin rfl dX9_readCommand_141 ?_
  revert hv; generalize aUp h46 a45 (aInts .int n9 (upd f9 ((0 : Int32)).toNatClampNeg x2)) = h50; intro hv
  refine aw_dup dX9_readCommand_142 rfl ?_
  refine aw_iconst (v := 1) dX9_readCommand_143 (by decide) ?_
  refine aw_iload_n 2 dX9_readCommand_144 rfl rfl ?_
  obtain ⟨n9, f9, he, hin, hv⟩ := hv
  refine aw_iast he hin rfl dX9_readCommand_145 ?_
  revert hv; generalize aUp h50 a45 (aInts .int n9 (upd f9 ((1 : Int32)).toNatClampNeg x1)) = h51; intro hv
  refine aw_dup dX9_readCommand_146 rfl ?_
  refine aw_iconst (v := 2) dX9_readCommand_147 (by decide) ?_
  refine aw_iload 0 dX9_readCommand_148 rfl ?_
  obtain ⟨n9, f9, he, hin, hv⟩ := hv
  refine aw_iast he hin rfl dX9_readCommand_150 ?_
  revert hv; generalize aUp h51 a45 (aInts .int n9 (upd f9 ((2 : Int32)).toNatClampNeg xs0)) = h52; intro hv
  refine aw_dup dX9_readCommand_151 rfl ?_
  refine aw_iconst (v := 3) dX9_readCommand_152 (by decide) ?_
  refine aw_iload_n 4 dX9_readCommand_153 rfl rfl ?_
  obtain ⟨n9, f9, he, hin, hv⟩ := hv
  refine aw_iast he hin rfl dX9_readCommand_154 ?_
  revert hv; generalize aUp h52 a45 (aInts .int n9 (upd f9 ((3 : Int32)).toNatClampNeg x3)) = h53; intro hv
  refine aw_astore (lv' := [(5, .ref a45), (4, .int xs0), (0, .ref x0), (1, .int x1), (2, .int x2), (3, .int x3)]) dX9_readCommand_155 (Nat.le_of_ble_eq_true rfl) rfl ?_
  refine aw_aload_n 2 (x := x0) dX9_readCommand_157 rfl rfl ?_
  obtain ⟨fs, a54, he, hx, hv⟩ := hv
  refine aw_get (v := .ref a54) he rfl in_X9 0 (by decide) q1310 (Or.inl rfl) hx dX9_readCommand_158 ?_
  refine aw_aload 0 (x := a45) dX9_readCommand_161 rfl ?_
  obtain ⟨⟨fs, he⟩, hv⟩ := hv
  obtain ⟨d2, mc2, ms2, Q, hM, hd9, hc9, hs9, hv, hx⟩ := hv
  refine aw_callF (rest := []) (x := ⟨"java/util/List", "add", "(Ljava/lang/Object;)Z"⟩) hM he rfl (by decide +kernel : aNoMH ⟨"java/util/List", "add", "(Ljava/lang/Object;)Z"⟩ 1) (by decide +kernel) q1305 q230 q228 q125 q232 dX9_readCommand_163 rfl hd9 (by decide) (Nat.le_of_ble_eq_true rfl) hc9 hs9 ?_ ?_
  rotate_left
  · exact fun E h2 q => aX_out (hx E h2 q) rfl hc9 hs9
  intro v9 h56 hq
  have hv := hv v9 h56 hq
  obtain ⟨y55, rfl, hv⟩ := hv
  refine aw_eqv (pc2 := 168) (st2 := [.int y55]) rfl rfl rfl rfl ?_
  revert hv hc9 hs9; generalize c47 + mc2 = c57; generalize s48 + ms2 = s58; intro hc9 hs9 hv
  refine aw_pop dX9_readCommand_168 rfl ?_
  exact aw_vret rfl dX9_readCommand_169 hv hc9 hs9
def V_X9_readCommand_0 (l : Launch) (G : aG) (d mc ms : Nat) (P : aR → aH → Prop) (x0 : Nat) (h : aH) : Prop :=
  vI h x0 8 2 fun y59 =>
  (y59 = 0 → 
    vIs h x0 8 (
    vC l G mX9_readNumber (wsN mX9_readNumber) d mc ms [.ref x0] h 0 0 (xP P) (kI fun y61 h62 c63 s64 => 
    T_X9_readCommand_15 l G d mc ms P x0 y61 h62 c63 s64))
    ) ∧ (¬ y59 = 0 → 
    T_X9_readCommand_15 l G d mc ms P x0 0 h 0 0
    )
set_option maxHeartbeats 4000000 in
theorem A_X9_readCommand {l : Launch} {G : aG} {d mc ms : Nat} {P : aR → aH → Prop} {x0 : Nat} {h : aH} (hl : l.stackTraces = false) (hv : V_X9_readCommand_0 l G d mc ms P x0 h) : aC l G mX9_readCommand (wsN mX9_readCommand) d mc ms [.ref x0] h P := by
  refine aC_ofF (M := mX9_readCommand) rfl pX9_readCommand (Nat.le_of_ble_eq_true rfl) hl ?_
  refine aw_eqv (lv2 := [(0, .ref x0)]) rfl rfl rfl rfl ?_
  unfold V_X9_readCommand_0 at hv
  refine aw_aload_n 0 (x := x0) dX9_readCommand_0 rfl rfl ?_
  obtain ⟨fs, y59, he, hx, hv⟩ := hv
  refine aw_get (v := .int y59) he rfl in_X9 2 (by decide) q1314 (Or.inl rfl) hx dX9_readCommand_1 ?_
  refine aw_if_eq 11 dX9_readCommand_4 (by decide) (fun c60 => ?_) (fun c60 => ?_)
  · have hv := hv.1 c60
    refine aw_aload_n 0 (x := x0) dX9_readCommand_11 rfl rfl ?_
    obtain ⟨⟨fs, he⟩, hv⟩ := hv
    obtain ⟨d2, mc2, ms2, Q, hM, hd9, hc9, hs9, hv, hx⟩ := hv
    refine aw_callV (rest := []) hM he rfl rfl nX9_readNumber q1208 q1210 qs31 q151 q1211 dX9_readCommand_12 rfl hd9 (by decide) (Nat.le_of_ble_eq_true rfl) hc9 hs9 ?_ ?_
    rotate_left
    · exact fun E h2 q => aX_out (hx E h2 q) rfl hc9 hs9
    intro v9 h62 hq
    have hv := hv v9 h62 hq
    obtain ⟨y61, rfl, hv⟩ := hv
    refine aw_eqv (pc2 := 15) (st2 := [.int y61]) rfl rfl rfl rfl ?_
    revert hv hc9 hs9; generalize 0 + mc2 = c63; generalize 0 + ms2 = s64; intro hc9 hs9 hv
    exact hv hc9 hs9
  · have hv := hv.2 c60
    refine aw_iconst (v := 0) dX9_readCommand_7 (by decide) ?_
    refine aw_goto 15 dX9_readCommand_8 (by decide) ?_
    exact hv (Nat.zero_le _) (Nat.zero_le _)
def V_X9_readSign_0 (l : Launch) (G : aG) (d mc ms : Nat) (P : aR → aH → Prop) (x0 : Nat) (x1 : Int32) (h : aH) : Prop :=
  vIs h x0 8 (
  vC l G mX9_skips (wsN mX9_skips) d mc ms [.ref x0, .int x1] h 0 0 (xP P) (kI fun y1 h2 c3 s4 => 
  vB (if y1 = 0 then (1 : Int32) else 0) ∧
  vPut h2 x0 8 2 (.int (if y1 = 0 then (1 : Int32) else 0)) fun h7 =>
  P (.inl none) h7))
set_option maxHeartbeats 4000000 in
theorem A_X9_readSign {l : Launch} {G : aG} {d mc ms : Nat} {P : aR → aH → Prop} {x0 : Nat} {x1 : Int32} {h : aH} (hl : l.stackTraces = false) (hv : V_X9_readSign_0 l G d mc ms P x0 x1 h) : aC l G mX9_readSign (wsN mX9_readSign) d mc ms [.ref x0, .int x1] h P := by
  refine aC_ofF (M := mX9_readSign) rfl pX9_readSign (Nat.le_of_ble_eq_true rfl) hl ?_
  refine aw_eqv (lv2 := [(0, .ref x0), (1, .int x1)]) rfl rfl rfl rfl ?_
  unfold V_X9_readSign_0 at hv
  refine aw_aload_n 0 (x := x0) dX9_readSign_0 rfl rfl ?_
  refine aw_aload_n 0 (x := x0) dX9_readSign_1 rfl rfl ?_
  refine aw_iload_n 1 dX9_readSign_2 rfl rfl ?_
  obtain ⟨⟨fs, he⟩, hv⟩ := hv
  obtain ⟨d2, mc2, ms2, Q, hM, hd9, hc9, hs9, hv, hx⟩ := hv
  refine aw_callV (rest := [.ref x0]) hM he rfl rfl nX9_skips q1292 q1294 qs35 q151 q1295 dX9_readSign_3 rfl hd9 (by decide) (Nat.le_of_ble_eq_true rfl) hc9 hs9 ?_ ?_
  rotate_left
  · exact fun E h2 q => aX_out (hx E h2 q) rfl hc9 hs9
  intro v9 h2 hq
  have hv := hv v9 h2 hq
  obtain ⟨y1, rfl, hv⟩ := hv
  refine aw_eqv (pc2 := 6) (st2 := [.int y1, .ref x0]) rfl rfl rfl rfl ?_
  revert hv hc9 hs9; generalize 0 + mc2 = c3; generalize 0 + ms2 = s4; intro hc9 hs9 hv
  have J9 : AW l G mX9_readSign d mc ms P 14 [(0, .ref x0), (1, .int x1)] [.int (if y1 = 0 then (1 : Int32) else 0), .ref x0] h2 c3 s4 := by
    obtain ⟨z6, hv⟩ := hv
    obtain ⟨fs, he, hk9, hv⟩ := hv
    refine aw_put he rfl in_X9 tyX9_ok nmX9 2 (by decide) q1314 (Or.inl rfl) rfl z6.nar z6.fit hk9 rfl dX9_readSign_14 ?_
    revert hv; generalize aUp h2 x0 (.inr (8, fs.set 2 (.int (if y1 = 0 then (1 : Int32) else 0)))) = h7; intro hv
    exact aw_vret rfl dX9_readSign_17 hv hc9 hs9
  refine aw_if_ne 13 dX9_readSign_6 (by decide) (fun c5 => ?_) (fun c5 => ?_)
  · have J9 := aw_ifF c5 J9
    refine aw_iconst (v := 0) dX9_readSign_13 (by decide) ?_
    exact J9
  · have J9 := aw_ifT c5 J9
    refine aw_iconst (v := 1) dX9_readSign_9 (by decide) ?_
    refine aw_goto 14 dX9_readSign_10 (by decide) ?_
    exact J9
def T_X9_init_24 (l : Launch) (G : aG) (d mc ms : Nat) (P : aR → aH → Prop) (x0 : Nat) (x1 : Nat) (h : aH) (c s : Nat) : Prop := c ≤ mc → s ≤ ms → AW l G mX9_init d mc ms P 24 [(0, .ref x0), (1, .ref x1)] [] h c s
def V_X9_init_24 (l : Launch) (G : aG) (d mc ms : Nat) (P : aR → aH → Prop) (x0 : Nat) (x1 : Nat) (h : aH) (c s : Nat) : Prop :=
  vI h x0 8 2 fun y1 =>
  (¬ y1 = 0 → 
    P (.inl none) h
    ) ∧ (y1 = 0 → 
    vI h x0 8 1 fun y3 =>
    vR h x1 1 7 fun a4 =>
    vIs h a4 10 (
    vC l G mJ8_length (wsN mJ8_length) d mc ms [.ref a4] h c s (xP P) (kI fun y5 h6 c7 s8 => 
    (y5 ≤ y3 → 
      P (.inl none) h6
      ) ∧ (¬ y5 ≤ y3 → 
      vIs h6 x0 8 (
      vC l G mX9_readSign (wsN mX9_readSign) d mc ms [.ref x0, .int 59] h6 c7 s8 (xP P) (kV fun h11 c12 s13 => 
      vIs h11 x0 8 (
      vC l G mX9_readCommand (wsN mX9_readCommand) d mc ms [.ref x0] h11 c12 s13 (xP P) (kV fun h15 c16 s17 => 
      T_X9_init_24 l G d mc ms P x0 x1 h15 c16 s17))))
      )))
    )
set_option maxHeartbeats 4000000 in
theorem A_X9_init_24 {l : Launch} {G : aG} {d mc ms : Nat} {P : aR → aH → Prop} {x0 : Nat} {x1 : Nat} {h : aH} {c s : Nat} (hl : l.stackTraces = false) (hv : V_X9_init_24 l G d mc ms P x0 x1 h c s) : T_X9_init_24 l G d mc ms P x0 x1 h c s := by
  intro hc hs
  unfold V_X9_init_24 at hv
  refine aw_aload_n 0 (x := x0) dX9_init_24 rfl rfl ?_
  obtain ⟨fs, y1, he, hx, hv⟩ := hv
  refine aw_get (v := .int y1) he rfl in_X9 2 (by decide) q1314 (Or.inl rfl) hx dX9_init_25 ?_
  refine aw_if_ne 58 dX9_init_28 (by decide) (fun c2 => ?_) (fun c2 => ?_)
  · have hv := hv.1 c2
    exact aw_vret rfl dX9_init_58 hv hc hs
  · have hv := hv.2 c2
    refine aw_aload_n 0 (x := x0) dX9_init_31 rfl rfl ?_
    obtain ⟨fs, y3, he, hx, hv⟩ := hv
    refine aw_get (v := .int y3) he rfl in_X9 1 (by decide) q1312 (Or.inl rfl) hx dX9_init_32 ?_
    refine aw_aload_n 1 (x := x1) dX9_init_35 rfl rfl ?_
    obtain ⟨fs, a4, he, hx, hv⟩ := hv
    refine aw_getN (v := .ref a4) he rfl in_X1 7 (by decide) q441 (Or.inl rfl) hx dX9_init_36 ?_
    obtain ⟨⟨fs, he⟩, hv⟩ := hv
    obtain ⟨d2, mc2, ms2, Q, hM, hd9, hc9, hs9, hv, hx⟩ := hv
    refine aw_callV (rest := [.int y3]) hM he rfl rfl nJ8_length q1224 q860 q861 q134 q862 dX9_init_39 rfl hd9 (by decide) (Nat.le_of_ble_eq_true rfl) hc9 hs9 ?_ ?_
    rotate_left
    · exact fun E h2 q => aX_out (hx E h2 q) rfl hc9 hs9
    intro v9 h6 hq
    have hv := hv v9 h6 hq
    obtain ⟨y5, rfl, hv⟩ := hv
    refine aw_eqv (pc2 := 42) (st2 := [.int y5, .int y3]) rfl rfl rfl rfl ?_
    revert hv hc9 hs9; generalize c + mc2 = c7; generalize s + ms2 = s8; intro hc9 hs9 hv
    refine aw_icmp_ge 58 dX9_init_42 (by decide) (fun c9 => ?_) (fun c9 => ?_)
    · have hv := hv.1 c9
      exact aw_vret rfl dX9_init_58 hv hc9 hs9
    · have hv := hv.2 c9
      refine aw_aload_n 0 (x := x0) dX9_init_45 rfl rfl ?_
      refine aw_bipush (v := 59) dX9_init_46 (by decide) ?_
      obtain ⟨⟨fs, he⟩, hv⟩ := hv
      obtain ⟨d2, mc2, ms2, Q, hM, hd9, hc9, hs9, hv, hx⟩ := hv
      refine aw_callV (rest := []) hM he rfl rfl nX9_readSign q1306 q1308 qs38 q151 q1309 dX9_init_48 rfl hd9 (by decide) (Nat.le_of_ble_eq_true rfl) hc9 hs9 ?_ ?_
      rotate_left
      · exact fun E h2 q => aX_out (hx E h2 q) rfl hc9 hs9
      intro v9 h11 hq
      have hv := hv v9 h11 hq
      obtain ⟨rfl, hv⟩ := hv
      refine aw_eqv (pc2 := 51) (st2 := []) rfl rfl rfl rfl ?_
      revert hv hc9 hs9; generalize c7 + mc2 = c12; generalize s8 + ms2 = s13; intro hc9 hs9 hv
      refine aw_aload_n 0 (x := x0) dX9_init_51 rfl rfl ?_
      obtain ⟨⟨fs, he⟩, hv⟩ := hv
      obtain ⟨d2, mc2, ms2, Q, hM, hd9, hc9, hs9, hv, hx⟩ := hv
      refine aw_callV (rest := []) hM he rfl rfl nX9_readCommand q1204 q1206 qs30 q151 q1207 dX9_init_52 rfl hd9 (by decide) (Nat.le_of_ble_eq_true rfl) hc9 hs9 ?_ ?_
      rotate_left
      · exact fun E h2 q => aX_out (hx E h2 q) rfl hc9 hs9
      intro v9 h15 hq
      have hv := hv v9 h15 hq
      obtain ⟨rfl, hv⟩ := hv
      refine aw_eqv (pc2 := 55) (st2 := []) rfl rfl rfl rfl ?_
      revert hv hc9 hs9; generalize c12 + mc2 = c16; generalize s13 + ms2 = s17; intro hc9 hs9 hv
      refine aw_goto 24 dX9_init_55 (by decide) ?_
      exact hv hc9 hs9
def V_X9_init_0 (l : Launch) (G : aG) (d mc ms : Nat) (P : aR → aH → Prop) (x0 : Nat) (x1 : Nat) (h : aH) : Prop :=
  vPut h x0 8 3 (.ref x1) fun h18 =>
  1 ≤ d ∧
  vNew h18 9 3 [.int 0, .null, .int 0] mc ms 0 0 fun a19 h20 c21 s22 => h18 a19 = none →
  vC l G mJ2_init (wsN mJ2_init) d mc ms [.ref a19] h20 c21 s22 (xP P) (kV fun h25 c26 s27 => 
  vPut h25 x0 8 0 (.ref a19) fun h28 =>
  vIs h28 x0 8 (
  vC l G mX9_readCommand (wsN mX9_readCommand) d mc ms [.ref x0] h28 c26 s27 (xP P) (kV fun h30 c31 s32 => 
  T_X9_init_24 l G d mc ms P x0 x1 h30 c31 s32)))
set_option maxHeartbeats 4000000 in
theorem A_X9_init {l : Launch} {G : aG} {d mc ms : Nat} {P : aR → aH → Prop} {x0 : Nat} {x1 : Nat} {h : aH} (hl : l.stackTraces = false) (hv : V_X9_init_0 l G d mc ms P x0 x1 h) : aC l G mX9_init (wsN mX9_init) d mc ms [.ref x0, .ref x1] h P := by
  refine aC_ofF (M := mX9_init) rfl pX9_init (Nat.le_of_ble_eq_true rfl) hl ?_
  refine aw_eqv (lv2 := [(0, .ref x0), (1, .ref x1)]) rfl rfl rfl rfl ?_
  unfold V_X9_init_0 at hv
  refine aw_aload_n 0 (x := x0) dX9_init_0 rfl rfl ?_
  refine aw_aload_n 1 (x := x1) dX9_init_1 rfl rfl ?_
  obtain ⟨fs, he, hk9, hv⟩ := hv
  refine aw_putF he rfl in_X9 tyX9_ok nmX9 3 (by decide) q1316 (Or.inl rfl) rfl rfl rfl rfl rfl hk9 rfl dX9_init_2 ?_
  revert hv; generalize aUp h x0 (.inr (8, fs.set 3 (.ref x1))) = h18; intro hv
  refine aw_aload_n 0 (x := x0) dX9_init_5 rfl rfl ?_
  obtain ⟨hd9, hv⟩ := hv
  refine aw_objInit q1201 q159 q160 hd9 (Nat.le_of_ble_eq_true rfl) dX9_init_6 ?_
  refine aw_aload_n 0 (x := x0) dX9_init_9 rfl rfl ?_
  obtain ⟨hc9, hs9, hv⟩ := hv
  refine aw_new (N := 3) (fs := [.int 0, .null, .int 0]) (rfl : aCl[9]? = _) in_J2 tyJ2_ok q1202 q190 q125 (by decide) hc9 hs9 dX9_init_10 (fun a19 g23 => ?_)
  have hv := hv a19 g23 g23
  refine aw_eqv (pc2 := 13) (st2 := [.ref a19, .ref x0]) rfl rfl rfl rfl ?_
  revert hv hc9 hs9; generalize aUp h18 a19 (.inr (9, [.int 0, .null, .int 0])) = h20; generalize 0 + 1 = c21; generalize 0 + 3 = s22; intro hc9 hs9 hv
  refine aw_dup dX9_init_13 rfl ?_
  obtain ⟨d2, mc2, ms2, Q, hM, hd9, hc9, hs9, hv, hx⟩ := hv
  refine aw_callI (rest := [.ref a19, .ref x0]) rfl hM nJ2_init rfl q1203 q192 q125 q193 dX9_init_14 rfl hd9 (by decide) (Nat.le_of_ble_eq_true rfl) hc9 hs9 ?_ ?_
  rotate_left
  · exact fun E h2 q => aX_out (hx E h2 q) rfl hc9 hs9
  intro v9 h25 hq
  have hv := hv v9 h25 hq
  obtain ⟨rfl, hv⟩ := hv
  refine aw_eqv (pc2 := 17) (st2 := [.ref a19, .ref x0]) rfl rfl rfl rfl ?_
  revert hv hc9 hs9; generalize c21 + mc2 = c26; generalize s22 + ms2 = s27; intro hc9 hs9 hv
  obtain ⟨fs, he, hk9, hv⟩ := hv
  refine aw_putF he rfl in_X9 tyX9_ok nmX9 0 (by decide) q1310 (Or.inl rfl) rfl rfl rfl rfl rfl hk9 rfl dX9_init_17 ?_
  revert hv; generalize aUp h25 x0 (.inr (8, fs.set 0 (.ref a19))) = h28; intro hv
  refine aw_aload_n 0 (x := x0) dX9_init_20 rfl rfl ?_
  obtain ⟨⟨fs, he⟩, hv⟩ := hv
  obtain ⟨d2, mc2, ms2, Q, hM, hd9, hc9, hs9, hv, hx⟩ := hv
  refine aw_callV (rest := []) hM he rfl rfl nX9_readCommand q1204 q1206 qs30 q151 q1207 dX9_init_21 rfl hd9 (by decide) (Nat.le_of_ble_eq_true rfl) hc9 hs9 ?_ ?_
  rotate_left
  · exact fun E h2 q => aX_out (hx E h2 q) rfl hc9 hs9
  intro v9 h30 hq
  have hv := hv v9 h30 hq
  obtain ⟨rfl, hv⟩ := hv
  refine aw_eqv (pc2 := 24) (st2 := []) rfl rfl rfl rfl ?_
  revert hv hc9 hs9; generalize c26 + mc2 = c31; generalize s27 + ms2 = s32; intro hc9 hs9 hv
  exact hv hc9 hs9
def V_X1_textError_0 (l : Launch) (G : aG) (d mc ms : Nat) (P : aR → aH → Prop) (x0 : Nat) (h : aH) : Prop :=
  vNew h 8 4 [.null, .int 0, .int 0, .null] mc ms 0 0 fun a1 h2 c3 s4 => h a1 = none →
  vC l G mX9_init (wsN mX9_init) d mc ms [.ref a1, .ref x0] h2 c3 s4 (xP P) (kV fun h7 c8 s9 => 
  vI h7 a1 8 2 fun y10 =>
  (y10 = 0 → 
    P (.inl (some (.int ((-1))))) h7
    ) ∧ (¬ y10 = 0 → 
    vI h7 a1 8 1 fun y12 =>
    P (.inl (some (.int y12))) h7
    ))
set_option maxHeartbeats 4000000 in
theorem A_X1_textError {l : Launch} {G : aG} {d mc ms : Nat} {P : aR → aH → Prop} {x0 : Nat} {h : aH} (hl : l.stackTraces = false) (hv : V_X1_textError_0 l G d mc ms P x0 h) : aC l G mX1_textError (wsN mX1_textError) d mc ms [.ref x0] h P := by
  refine aC_ofF (M := mX1_textError) rfl pX1_textError (Nat.le_of_ble_eq_true rfl) hl ?_
  refine aw_eqv (lv2 := [(0, .ref x0)]) rfl rfl rfl rfl ?_
  unfold V_X1_textError_0 at hv
  obtain ⟨hc9, hs9, hv⟩ := hv
  refine aw_new (N := 4) (fs := [.null, .int 0, .int 0, .null]) (rfl : aCl[8]? = _) in_X9 tyX9_ok q1196 q1197 q151 (by decide) hc9 hs9 dX1_textError_0 (fun a1 g5 => ?_)
  have hv := hv a1 g5 g5
  refine aw_eqv (pc2 := 3) (st2 := [.ref a1]) rfl rfl rfl rfl ?_
  revert hv hc9 hs9; generalize aUp h a1 (.inr (8, [.null, .int 0, .int 0, .null])) = h2; generalize 0 + 1 = c3; generalize 0 + 4 = s4; intro hc9 hs9 hv
  refine aw_dup dX1_textError_3 rfl ?_
  refine aw_aload_n 0 (x := x0) dX1_textError_4 rfl rfl ?_
  obtain ⟨d2, mc2, ms2, Q, hM, hd9, hc9, hs9, hv, hx⟩ := hv
  refine aw_callI (rest := [.ref a1]) rfl hM nX9_init rfl q1198 q1199 q151 q1200 dX1_textError_5 rfl hd9 (by decide) (Nat.le_of_ble_eq_true rfl) hc9 hs9 ?_ ?_
  rotate_left
  · exact fun E h2 q => aX_out (hx E h2 q) rfl hc9 hs9
  intro v9 h7 hq
  have hv := hv v9 h7 hq
  obtain ⟨rfl, hv⟩ := hv
  refine aw_eqv (pc2 := 8) (st2 := [.ref a1]) rfl rfl rfl rfl ?_
  revert hv hc9 hs9; generalize c3 + mc2 = c8; generalize s4 + ms2 = s9; intro hc9 hs9 hv
  refine aw_astore_n (lv' := [(1, .ref a1), (0, .ref x0)]) dX1_textError_8 rfl (Nat.le_of_ble_eq_true rfl) rfl ?_
  refine aw_aload_n 0 (x := a1) dX1_textError_9 rfl rfl ?_
  obtain ⟨fs, y10, he, hx, hv⟩ := hv
  refine aw_getN (v := .int y10) he rfl in_X9 2 (by decide) q1315 (Or.inl rfl) hx dX1_textError_10 ?_
  refine aw_if_eq 23 dX1_textError_13 (by decide) (fun c11 => ?_) (fun c11 => ?_)
  · have hv := hv.1 c11
    refine aw_iconst (v := (-1)) dX1_textError_23 (by decide) ?_
    exact aw_iret rfl dX1_textError_24 hv hc9 hs9
  · have hv := hv.2 c11
    refine aw_aload_n 0 (x := a1) dX1_textError_16 rfl rfl ?_
    obtain ⟨fs, y12, he, hx, hv⟩ := hv
    refine aw_getN (v := .int y12) he rfl in_X9 1 (by decide) q1313 (Or.inl rfl) hx dX1_textError_17 ?_
    refine aw_goto 24 dX1_textError_20 (by decide) ?_
    exact aw_iret rfl dX1_textError_24 hv hc9 hs9
def V_X1_undoCount_0 (l : Launch) (G : aG) (d mc ms : Nat) (P : aR → aH → Prop) (x0 : Nat) (h : aH) : Prop :=
  vR h x0 1 5 fun a1 =>
  vIs h a1 9 (
  vC l G mJ2_size (wsN mJ2_size) d mc ms [.ref a1] h 0 0 (xP P) (kI fun y2 h3 c4 s5 => 
  P (.inl (some (.int y2))) h3))
set_option maxHeartbeats 4000000 in
theorem A_X1_undoCount {l : Launch} {G : aG} {d mc ms : Nat} {P : aR → aH → Prop} {x0 : Nat} {h : aH} (hl : l.stackTraces = false) (hv : V_X1_undoCount_0 l G d mc ms P x0 h) : aC l G mX1_undoCount (wsN mX1_undoCount) d mc ms [.ref x0] h P := by
  refine aC_ofF (M := mX1_undoCount) rfl pX1_undoCount (Nat.le_of_ble_eq_true rfl) hl ?_
  refine aw_eqv (lv2 := [(0, .ref x0)]) rfl rfl rfl rfl ?_
  unfold V_X1_undoCount_0 at hv
  refine aw_aload_n 0 (x := x0) dX1_undoCount_0 rfl rfl ?_
  obtain ⟨fs, a1, he, hx, hv⟩ := hv
  refine aw_get (v := .ref a1) he rfl in_X1 5 (by decide) q439 (Or.inl rfl) hx dX1_undoCount_1 ?_
  obtain ⟨⟨fs, he⟩, hv⟩ := hv
  obtain ⟨d2, mc2, ms2, Q, hM, hd9, hc9, hs9, hv, hx⟩ := hv
  refine aw_callF (rest := []) (x := ⟨"java/util/List", "size", "()I"⟩) hM he rfl (by decide +kernel : aNoMH ⟨"java/util/List", "size", "()I"⟩ 0) (by decide +kernel) q469 q474 q472 q125 q476 dX1_undoCount_4 rfl hd9 (by decide) (Nat.le_of_ble_eq_true rfl) hc9 hs9 ?_ ?_
  rotate_left
  · exact fun E h2 q => aX_out (hx E h2 q) rfl hc9 hs9
  intro v9 h3 hq
  have hv := hv v9 h3 hq
  obtain ⟨y2, rfl, hv⟩ := hv
  refine aw_eqv (pc2 := 9) (st2 := [.int y2]) rfl rfl rfl rfl ?_
  revert hv hc9 hs9; generalize 0 + mc2 = c4; generalize 0 + ms2 = s5; intro hc9 hs9 hv
  exact aw_iret rfl dX1_undoCount_9 hv hc9 hs9
def V_X1_checkArgument_0 (l : Launch) (G : aG) (d mc ms : Nat) (P : aR → aH → Prop) (x0 : Int32) (h : aH) : Prop :=
  (¬ x0 = 0 → 
    P (.inl none) h
    ) ∧ (x0 = 0 → 
    6 ≤ d ∧ 0 + 1 ≤ mc ∧ 0 + 6 ≤ ms ∧ P (.inr "java/lang/IllegalArgumentException") h
    )
set_option maxHeartbeats 4000000 in
theorem A_X1_checkArgument {l : Launch} {G : aG} {d mc ms : Nat} {P : aR → aH → Prop} {x0 : Int32} {h : aH} (hl : l.stackTraces = false) (hv : V_X1_checkArgument_0 l G d mc ms P x0 h) : aC l G mX1_checkArgument (wsN mX1_checkArgument) d mc ms [.int x0] h P := by
  refine aC_ofF (M := mX1_checkArgument) rfl pX1_checkArgument (Nat.le_of_ble_eq_true rfl) hl ?_
  refine aw_eqv (lv2 := [(0, .int x0)]) rfl rfl rfl rfl ?_
  unfold V_X1_checkArgument_0 at hv
  refine aw_iload_n 0 dX1_checkArgument_0 rfl rfl ?_
  refine aw_if_ne 12 dX1_checkArgument_1 (by decide) (fun c1 => ?_) (fun c1 => ?_)
  · have hv := hv.1 c1
    exact aw_vret rfl dX1_checkArgument_12 hv (Nat.zero_le _) (Nat.zero_le _)
  · have hv := hv.2 c1
    obtain ⟨w6, hc9, hs9, hv⟩ := hv
    exact aw_throw0 (names := ["java/lang/RuntimeException", "java/lang/Exception"]) (ik := 7) (ic := 9) (by decide) (by decide) q1342 q141 (by decide +kernel) (by decide +kernel) dX1_checkArgument_4 dX1_checkArgument_7 dX1_checkArgument_8 dX1_checkArgument_11 rfl w6 (Nat.le_of_ble_eq_true rfl) hc9 hs9 hv
def T_X1_start_25 (l : Launch) (G : aG) (d mc ms : Nat) (P : aR → aH → Prop) (x0 : Nat) (x1 : Int32) (x2 : Int32) (xs0 : Int32) (h : aH) (c s : Nat) : Prop := c ≤ mc → s ≤ ms → AW l G mX1_start d mc ms P 25 [(0, .ref x0), (1, .int x1), (2, .int x2)] [.int xs0] h c s
def V_X1_start_25 (l : Launch) (G : aG) (d mc ms : Nat) (P : aR → aH → Prop) (x0 : Nat) (x1 : Int32) (x2 : Int32) (xs0 : Int32) (h : aH) (c s : Nat) : Prop :=
  vC l G mX1_checkArgument (wsN mX1_checkArgument) d mc ms [.int xs0] h c s (xP P) (kV fun h2 c3 s4 => 
  vIs h2 x0 1 (
  vC l G mX1_recordIf (wsN mX1_recordIf) d mc ms [.ref x0, .int 1] h2 c3 s4 (xP P) (kV fun h6 c7 s8 => 
  vR h6 x0 1 1 fun a9 =>
  vIs h6 a9 3 (
  vC l G mX3_begin (wsN mX3_begin) d mc ms [.ref a9, .int x1, .int x2] h6 c7 s8 (xP P) (kV fun h11 c12 s13 => 
  vR h11 x0 1 2 fun a14 =>
  vIs h11 a14 5 (
  vC l G mX5_clear (wsN mX5_clear) d mc ms [.ref a14] h11 c12 s13 (xP P) (kI fun y15 h16 c17 s18 => 
  vR h16 x0 1 1 fun a19 =>
  vIs h16 a19 3 (
  vC l G mX3_cellCount (wsN mX3_cellCount) d mc ms [.ref a19] h16 c17 s18 (xP P) (kI fun y20 h21 c22 s23 => 
  P (.inl (some (.int y20))) h21)))))))))
set_option maxHeartbeats 4000000 in
theorem A_X1_start_25 {l : Launch} {G : aG} {d mc ms : Nat} {P : aR → aH → Prop} {x0 : Nat} {x1 : Int32} {x2 : Int32} {xs0 : Int32} {h : aH} {c s : Nat} (hl : l.stackTraces = false) (hv : V_X1_start_25 l G d mc ms P x0 x1 x2 xs0 h c s) : T_X1_start_25 l G d mc ms P x0 x1 x2 xs0 h c s := by
  intro hc hs
  unfold V_X1_start_25 at hv
  obtain ⟨d2, mc2, ms2, Q, hM, hd9, hc9, hs9, hv, hx⟩ := hv
  refine aw_callS (rest := []) hM nX1_checkArgument q1339 q1340 q119 q1341 dX1_start_25 rfl hd9 (by decide) (Nat.le_of_ble_eq_true rfl) hc9 hs9 ?_ ?_
  rotate_left
  · exact fun E h2 q => aX_out (hx E h2 q) rfl hc9 hs9
  intro v9 h2 hq
  have hv := hv v9 h2 hq
  obtain ⟨rfl, hv⟩ := hv
  refine aw_eqv (pc2 := 28) (st2 := []) rfl rfl rfl rfl ?_
  revert hv hc9 hs9; generalize c + mc2 = c3; generalize s + ms2 = s4; intro hc9 hs9 hv
  refine aw_aload_n 0 (x := x0) dX1_start_28 rfl rfl ?_
  refine aw_iconst (v := 1) dX1_start_29 (by decide) ?_
  obtain ⟨⟨fs, he⟩, hv⟩ := hv
  obtain ⟨d2, mc2, ms2, Q, hM, hd9, hc9, hs9, hv, hx⟩ := hv
  refine aw_callV (rest := []) hM he rfl rfl nX1_recordIf q464 q466 qs6 q119 q467 dX1_start_30 rfl hd9 (by decide) (Nat.le_of_ble_eq_true rfl) hc9 hs9 ?_ ?_
  rotate_left
  · exact fun E h2 q => aX_out (hx E h2 q) rfl hc9 hs9
  intro v9 h6 hq
  have hv := hv v9 h6 hq
  obtain ⟨rfl, hv⟩ := hv
  refine aw_eqv (pc2 := 33) (st2 := []) rfl rfl rfl rfl ?_
  revert hv hc9 hs9; generalize c3 + mc2 = c7; generalize s4 + ms2 = s8; intro hc9 hs9 hv
  refine aw_aload_n 0 (x := x0) dX1_start_33 rfl rfl ?_
  obtain ⟨fs, a9, he, hx, hv⟩ := hv
  refine aw_get (v := .ref a9) he rfl in_X1 1 (by decide) q435 (Or.inl rfl) hx dX1_start_34 ?_
  refine aw_iload_n 1 dX1_start_37 rfl rfl ?_
  refine aw_iload_n 2 dX1_start_38 rfl rfl ?_
  obtain ⟨⟨fs, he⟩, hv⟩ := hv
  obtain ⟨d2, mc2, ms2, Q, hM, hd9, hc9, hs9, hv, hx⟩ := hv
  refine aw_callV (rest := []) hM he rfl rfl nX3_begin q1353 q176 q177 q121 q178 dX1_start_39 rfl hd9 (by decide) (Nat.le_of_ble_eq_true rfl) hc9 hs9 ?_ ?_
  rotate_left
  · exact fun E h2 q => aX_out (hx E h2 q) rfl hc9 hs9
  intro v9 h11 hq
  have hv := hv v9 h11 hq
  obtain ⟨rfl, hv⟩ := hv
  refine aw_eqv (pc2 := 42) (st2 := []) rfl rfl rfl rfl ?_
  revert hv hc9 hs9; generalize c7 + mc2 = c12; generalize s8 + ms2 = s13; intro hc9 hs9 hv
  refine aw_aload_n 0 (x := x0) dX1_start_42 rfl rfl ?_
  obtain ⟨fs, a14, he, hx, hv⟩ := hv
  refine aw_get (v := .ref a14) he rfl in_X1 2 (by decide) q436 (Or.inl rfl) hx dX1_start_43 ?_
  obtain ⟨⟨fs, he⟩, hv⟩ := hv
  obtain ⟨d2, mc2, ms2, Q, hM, hd9, hc9, hs9, hv, hx⟩ := hv
  refine aw_callV (rest := []) hM he rfl rfl nX5_clear q604 q365 q366 q132 q367 dX1_start_46 rfl hd9 (by decide) (Nat.le_of_ble_eq_true rfl) hc9 hs9 ?_ ?_
  rotate_left
  · exact fun E h2 q => aX_out (hx E h2 q) rfl hc9 hs9
  intro v9 h16 hq
  have hv := hv v9 h16 hq
  obtain ⟨y15, rfl, hv⟩ := hv
  refine aw_eqv (pc2 := 49) (st2 := [.int y15]) rfl rfl rfl rfl ?_
  revert hv hc9 hs9; generalize c12 + mc2 = c17; generalize s13 + ms2 = s18; intro hc9 hs9 hv
  refine aw_istore_n (lv' := [(3, .int y15), (0, .ref x0), (1, .int x1), (2, .int x2)]) dX1_start_49 rfl (Nat.le_of_ble_eq_true rfl) rfl ?_
  refine aw_aload_n 1 (x := x0) dX1_start_50 rfl rfl ?_
  obtain ⟨fs, a19, he, hx, hv⟩ := hv
  refine aw_get (v := .ref a19) he rfl in_X1 1 (by decide) q435 (Or.inl rfl) hx dX1_start_51 ?_
  obtain ⟨⟨fs, he⟩, hv⟩ := hv
  obtain ⟨d2, mc2, ms2, Q, hM, hd9, hc9, hs9, hv, hx⟩ := hv
  refine aw_callV (rest := []) hM he rfl rfl nX3_cellCount q572 q369 q370 q121 q371 dX1_start_54 rfl hd9 (by decide) (Nat.le_of_ble_eq_true rfl) hc9 hs9 ?_ ?_
  rotate_left
  · exact fun E h2 q => aX_out (hx E h2 q) rfl hc9 hs9
  intro v9 h21 hq
  have hv := hv v9 h21 hq
  obtain ⟨y20, rfl, hv⟩ := hv
  refine aw_eqv (pc2 := 57) (st2 := [.int y20]) rfl rfl rfl rfl ?_
  revert hv hc9 hs9; generalize c17 + mc2 = c22; generalize s18 + ms2 = s23; intro hc9 hs9 hv
  exact aw_iret rfl dX1_start_57 hv hc9 hs9
def V_X1_start_0 (l : Launch) (G : aG) (d mc ms : Nat) (P : aR → aH → Prop) (x0 : Nat) (x1 : Int32) (x2 : Int32) (h : aH) : Prop :=
  vC l G mX1_isIn (wsN mX1_isIn) d mc ms [.int x1, .int 4, .int 5] h 0 0 (xP P) (kI fun y24 h25 c26 s27 => 
  (y24 = 0 → 
    T_X1_start_25 l G d mc ms P x0 x1 x2 0 h25 c26 s27
    ) ∧ (¬ y24 = 0 → 
    vC l G mX1_isIn (wsN mX1_isIn) d mc ms [.int x2, .int 2, .int (x1 - (1 : Int32))] h25 c26 s27 (xP P) (kI fun y29 h30 c31 s32 => 
    T_X1_start_25 l G d mc ms P x0 x1 x2 (if y29 = 0 then (0 : Int32) else 1) h30 c31 s32)
    ))
set_option maxHeartbeats 4000000 in
theorem A_X1_start {l : Launch} {G : aG} {d mc ms : Nat} {P : aR → aH → Prop} {x0 : Nat} {x1 : Int32} {x2 : Int32} {h : aH} (hl : l.stackTraces = false) (hv : V_X1_start_0 l G d mc ms P x0 x1 x2 h) : aC l G mX1_start (wsN mX1_start) d mc ms [.ref x0, .int x1, .int x2] h P := by
  refine aC_ofF (M := mX1_start) rfl pX1_start (Nat.le_of_ble_eq_true rfl) hl ?_
  refine aw_eqv (lv2 := [(0, .ref x0), (1, .int x1), (2, .int x2)]) rfl rfl rfl rfl ?_
  unfold V_X1_start_0 at hv
  refine aw_iload_n 1 dX1_start_0 rfl rfl ?_
  refine aw_iconst (v := 4) dX1_start_1 (by decide) ?_
  refine aw_iconst (v := 5) dX1_start_2 (by decide) ?_
  obtain ⟨d2, mc2, ms2, Q, hM, hd9, hc9, hs9, hv, hx⟩ := hv
  refine aw_callS (rest := []) hM nX1_isIn q1338 q1239 q119 q1240 dX1_start_3 rfl hd9 (by decide) (Nat.le_of_ble_eq_true rfl) hc9 hs9 ?_ ?_
  rotate_left
  · exact fun E h2 q => aX_out (hx E h2 q) rfl hc9 hs9
  intro v9 h25 hq
  have hv := hv v9 h25 hq
  obtain ⟨y24, rfl, hv⟩ := hv
  refine aw_eqv (pc2 := 6) (st2 := [.int y24]) rfl rfl rfl rfl ?_
  revert hv hc9 hs9; generalize 0 + mc2 = c26; generalize 0 + ms2 = s27; intro hc9 hs9 hv
  refine aw_if_eq 24 dX1_start_6 (by decide) (fun c28 => ?_) (fun c28 => ?_)
  · have hv := hv.1 c28
    refine aw_iconst (v := 0) dX1_start_24 (by decide) ?_
    exact hv hc9 hs9
  · have hv := hv.2 c28
    refine aw_iload_n 2 dX1_start_9 rfl rfl ?_
    refine aw_iconst (v := 2) dX1_start_10 (by decide) ?_
    refine aw_iload_n 1 dX1_start_11 rfl rfl ?_
    refine aw_iconst (v := 1) dX1_start_12 (by decide) ?_
    refine aw_isub dX1_start_13 ?_
    obtain ⟨d2, mc2, ms2, Q, hM, hd9, hc9, hs9, hv, hx⟩ := hv
    refine aw_callS (rest := []) hM nX1_isIn q1338 q1239 q119 q1240 dX1_start_14 rfl hd9 (by decide) (Nat.le_of_ble_eq_true rfl) hc9 hs9 ?_ ?_
    rotate_left
    · exact fun E h2 q => aX_out (hx E h2 q) rfl hc9 hs9
    intro v9 h30 hq
    have hv := hv v9 h30 hq
    obtain ⟨y29, rfl, hv⟩ := hv
    refine aw_eqv (pc2 := 17) (st2 := [.int y29]) rfl rfl rfl rfl ?_
    revert hv hc9 hs9; generalize c26 + mc2 = c31; generalize s27 + ms2 = s32; intro hc9 hs9 hv
    have J9 : AW l G mX1_start d mc ms P 25 [(0, .ref x0), (1, .int x1), (2, .int x2)] [.int (if y29 = 0 then (0 : Int32) else 1)] h30 c31 s32 := by
      exact hv hc9 hs9
    refine aw_if_eq 24 dX1_start_17 (by decide) (fun c33 => ?_) (fun c33 => ?_)
    · have J9 := aw_ifT c33 J9
      refine aw_iconst (v := 0) dX1_start_24 (by decide) ?_
      exact J9
    · have J9 := aw_ifF c33 J9
      refine aw_iconst (v := 1) dX1_start_20 (by decide) ?_
      refine aw_goto 25 dX1_start_21 (by decide) ?_
      exact J9
def V_X1_checkIndex_0 (l : Launch) (G : aG) (d mc ms : Nat) (P : aR → aH → Prop) (x0 : Int32) (h : aH) : Prop :=
  (¬ x0 = 0 → 
    P (.inl none) h
    ) ∧ (x0 = 0 → 
    6 ≤ d ∧ 0 + 1 ≤ mc ∧ 0 + 6 ≤ ms ∧ P (.inr "java/lang/IndexOutOfBoundsException") h
    )
set_option maxHeartbeats 4000000 in
theorem A_X1_checkIndex {l : Launch} {G : aG} {d mc ms : Nat} {P : aR → aH → Prop} {x0 : Int32} {h : aH} (hl : l.stackTraces = false) (hv : V_X1_checkIndex_0 l G d mc ms P x0 h) : aC l G mX1_checkIndex (wsN mX1_checkIndex) d mc ms [.int x0] h P := by
  refine aC_ofF (M := mX1_checkIndex) rfl pX1_checkIndex (Nat.le_of_ble_eq_true rfl) hl ?_
  refine aw_eqv (lv2 := [(0, .int x0)]) rfl rfl rfl rfl ?_
  unfold V_X1_checkIndex_0 at hv
  refine aw_iload_n 0 dX1_checkIndex_0 rfl rfl ?_
  refine aw_if_ne 12 dX1_checkIndex_1 (by decide) (fun c1 => ?_) (fun c1 => ?_)
  · have hv := hv.1 c1
    exact aw_vret rfl dX1_checkIndex_12 hv (Nat.zero_le _) (Nat.zero_le _)
  · have hv := hv.2 c1
    obtain ⟨w6, hc9, hs9, hv⟩ := hv
    exact aw_throw0 (names := ["java/lang/RuntimeException", "java/lang/Exception"]) (ik := 1) (ic := 3) (by decide) (by decide) q1375 q144 (by decide +kernel) (by decide +kernel) dX1_checkIndex_4 dX1_checkIndex_7 dX1_checkIndex_8 dX1_checkIndex_11 rfl w6 (Nat.le_of_ble_eq_true rfl) hc9 hs9 hv
def V_X1_checkEdge_0 (l : Launch) (G : aG) (d mc ms : Nat) (P : aR → aH → Prop) (x0 : Nat) (x1 : Int32) (h : aH) : Prop :=
  vR h x0 1 1 fun a1 =>
  vIs h a1 3 (
  vC l G mX3_edgeCount (wsN mX3_edgeCount) d mc ms [.ref a1] h 0 0 (xP P) (kI fun y2 h3 c4 s5 => 
  vC l G mX1_isIn (wsN mX1_isIn) d mc ms [.int x1, .int 0, .int (y2 - (1 : Int32))] h3 c4 s5 (xP P) (kI fun y6 h7 c8 s9 => 
  vC l G mX1_checkIndex (wsN mX1_checkIndex) d mc ms [.int y6] h7 c8 s9 (xP P) (kV fun h11 c12 s13 => 
  P (.inl none) h11))))
set_option maxHeartbeats 4000000 in
theorem A_X1_checkEdge {l : Launch} {G : aG} {d mc ms : Nat} {P : aR → aH → Prop} {x0 : Nat} {x1 : Int32} {h : aH} (hl : l.stackTraces = false) (hv : V_X1_checkEdge_0 l G d mc ms P x0 x1 h) : aC l G mX1_checkEdge (wsN mX1_checkEdge) d mc ms [.ref x0, .int x1] h P := by
  refine aC_ofF (M := mX1_checkEdge) rfl pX1_checkEdge (Nat.le_of_ble_eq_true rfl) hl ?_
  refine aw_eqv (lv2 := [(0, .ref x0), (1, .int x1)]) rfl rfl rfl rfl ?_
  unfold V_X1_checkEdge_0 at hv
  refine aw_iload_n 1 dX1_checkEdge_0 rfl rfl ?_
  refine aw_iconst (v := 0) dX1_checkEdge_1 (by decide) ?_
  refine aw_aload_n 0 (x := x0) dX1_checkEdge_2 rfl rfl ?_
  obtain ⟨fs, a1, he, hx, hv⟩ := hv
  refine aw_get (v := .ref a1) he rfl in_X1 1 (by decide) q435 (Or.inl rfl) hx dX1_checkEdge_3 ?_
  obtain ⟨⟨fs, he⟩, hv⟩ := hv
  obtain ⟨d2, mc2, ms2, Q, hM, hd9, hc9, hs9, hv, hx⟩ := hv
  refine aw_callV (rest := [.int 0, .int x1]) hM he rfl rfl nX3_edgeCount q527 q528 q529 q121 q530 dX1_checkEdge_6 rfl hd9 (by decide) (Nat.le_of_ble_eq_true rfl) hc9 hs9 ?_ ?_
  rotate_left
  · exact fun E h2 q => aX_out (hx E h2 q) rfl hc9 hs9
  intro v9 h3 hq
  have hv := hv v9 h3 hq
  obtain ⟨y2, rfl, hv⟩ := hv
  refine aw_eqv (pc2 := 9) (st2 := [.int y2, .int 0, .int x1]) rfl rfl rfl rfl ?_
  revert hv hc9 hs9; generalize 0 + mc2 = c4; generalize 0 + ms2 = s5; intro hc9 hs9 hv
  refine aw_iconst (v := 1) dX1_checkEdge_9 (by decide) ?_
  refine aw_isub dX1_checkEdge_10 ?_
  obtain ⟨d2, mc2, ms2, Q, hM, hd9, hc9, hs9, hv, hx⟩ := hv
  refine aw_callS (rest := []) hM nX1_isIn q1338 q1239 q119 q1240 dX1_checkEdge_11 rfl hd9 (by decide) (Nat.le_of_ble_eq_true rfl) hc9 hs9 ?_ ?_
  rotate_left
  · exact fun E h2 q => aX_out (hx E h2 q) rfl hc9 hs9
  intro v9 h7 hq
  have hv := hv v9 h7 hq
  obtain ⟨y6, rfl, hv⟩ := hv
  refine aw_eqv (pc2 := 14) (st2 := [.int y6]) rfl rfl rfl rfl ?_
  revert hv hc9 hs9; generalize c4 + mc2 = c8; generalize s5 + ms2 = s9; intro hc9 hs9 hv
  obtain ⟨d2, mc2, ms2, Q, hM, hd9, hc9, hs9, hv, hx⟩ := hv
  refine aw_callS (rest := []) hM nX1_checkIndex q1372 q1373 q119 q1374 dX1_checkEdge_14 rfl hd9 (by decide) (Nat.le_of_ble_eq_true rfl) hc9 hs9 ?_ ?_
  rotate_left
  · exact fun E h2 q => aX_out (hx E h2 q) rfl hc9 hs9
  intro v9 h11 hq
  have hv := hv v9 h11 hq
  obtain ⟨rfl, hv⟩ := hv
  refine aw_eqv (pc2 := 17) (st2 := []) rfl rfl rfl rfl ?_
  revert hv hc9 hs9; generalize c8 + mc2 = c12; generalize s9 + ms2 = s13; intro hc9 hs9 hv
  exact aw_vret rfl dX1_checkEdge_17 hv hc9 hs9
def V_X1_checkLetter_0 (l : Launch) (G : aG) (d mc ms : Nat) (P : aR → aH → Prop) (x0 : Nat) (x1 : Int32) (h : aH) : Prop :=
  vR h x0 1 1 fun a1 =>
  vI h a1 3 5 fun y2 =>
  vC l G mX1_isIn (wsN mX1_isIn) d mc ms [.int x1, .int 0, .int (y2 - (1 : Int32))] h 0 0 (xP P) (kI fun y3 h4 c5 s6 => 
  vC l G mX1_checkArgument (wsN mX1_checkArgument) d mc ms [.int y3] h4 c5 s6 (xP P) (kV fun h8 c9 s10 => 
  P (.inl none) h8))
set_option maxHeartbeats 4000000 in
theorem A_X1_checkLetter {l : Launch} {G : aG} {d mc ms : Nat} {P : aR → aH → Prop} {x0 : Nat} {x1 : Int32} {h : aH} (hl : l.stackTraces = false) (hv : V_X1_checkLetter_0 l G d mc ms P x0 x1 h) : aC l G mX1_checkLetter (wsN mX1_checkLetter) d mc ms [.ref x0, .int x1] h P := by
  refine aC_ofF (M := mX1_checkLetter) rfl pX1_checkLetter (Nat.le_of_ble_eq_true rfl) hl ?_
  refine aw_eqv (lv2 := [(0, .ref x0), (1, .int x1)]) rfl rfl rfl rfl ?_
  unfold V_X1_checkLetter_0 at hv
  refine aw_iload_n 1 dX1_checkLetter_0 rfl rfl ?_
  refine aw_iconst (v := 0) dX1_checkLetter_1 (by decide) ?_
  refine aw_aload_n 0 (x := x0) dX1_checkLetter_2 rfl rfl ?_
  obtain ⟨fs, a1, he, hx, hv⟩ := hv
  refine aw_get (v := .ref a1) he rfl in_X1 1 (by decide) q435 (Or.inl rfl) hx dX1_checkLetter_3 ?_
  obtain ⟨fs, y2, he, hx, hv⟩ := hv
  refine aw_getN (v := .int y2) he rfl in_X3 5 (by decide) q335 (Or.inl rfl) hx dX1_checkLetter_6 ?_
  refine aw_iconst (v := 1) dX1_checkLetter_9 (by decide) ?_
  refine aw_isub dX1_checkLetter_10 ?_
  obtain ⟨d2, mc2, ms2, Q, hM, hd9, hc9, hs9, hv, hx⟩ := hv
  refine aw_callS (rest := []) hM nX1_isIn q1338 q1239 q119 q1240 dX1_checkLetter_11 rfl hd9 (by decide) (Nat.le_of_ble_eq_true rfl) hc9 hs9 ?_ ?_
  rotate_left
  · exact fun E h2 q => aX_out (hx E h2 q) rfl hc9 hs9
  intro v9 h4 hq
  have hv := hv v9 h4 hq
  obtain ⟨y3, rfl, hv⟩ := hv
  refine aw_eqv (pc2 := 14) (st2 := [.int y3]) rfl rfl rfl rfl ?_
  revert hv hc9 hs9; generalize 0 + mc2 = c5; generalize 0 + ms2 = s6; intro hc9 hs9 hv
  obtain ⟨d2, mc2, ms2, Q, hM, hd9, hc9, hs9, hv, hx⟩ := hv
  refine aw_callS (rest := []) hM nX1_checkArgument q1339 q1340 q119 q1341 dX1_checkLetter_14 rfl hd9 (by decide) (Nat.le_of_ble_eq_true rfl) hc9 hs9 ?_ ?_
  rotate_left
  · exact fun E h2 q => aX_out (hx E h2 q) rfl hc9 hs9
  intro v9 h8 hq
  have hv := hv v9 h8 hq
  obtain ⟨rfl, hv⟩ := hv
  refine aw_eqv (pc2 := 17) (st2 := []) rfl rfl rfl rfl ?_
  revert hv hc9 hs9; generalize c5 + mc2 = c9; generalize s6 + ms2 = s10; intro hc9 hs9 hv
  exact aw_vret rfl dX1_checkLetter_17 hv hc9 hs9
def V_X1_tell_0 (l : Launch) (G : aG) (d mc ms : Nat) (P : aR → aH → Prop) (x0 : Nat) (x1 : Int32) (x2 : Int32) (x3 : Int32) (x4 : Int32) (h : aH) : Prop :=
  vIs h x0 1 (
  vC l G mX1_checkEdge (wsN mX1_checkEdge) d mc ms [.ref x0, .int x1] h 0 0 (xP P) (kV fun h2 c3 s4 => 
  vIs h2 x0 1 (
  vC l G mX1_checkLetter (wsN mX1_checkLetter) d mc ms [.ref x0, .int x2] h2 c3 s4 (xP P) (kV fun h6 c7 s8 => 
  vIs h6 x0 1 (
  vC l G mX1_recordIf (wsN mX1_recordIf) d mc ms [.ref x0, .int x4] h6 c7 s8 (xP P) (kV fun h10 c11 s12 => 
  vR h10 x0 1 1 fun a13 =>
  vIs h10 a13 3 (
  vC l G mX3_tell (wsN mX3_tell) d mc ms [.ref a13, .int x1, .int x2, .int x3] h10 c11 s12 (xP P) (kI fun y14 h15 c16 s17 => 
  P (.inl (some (.int y14))) h15))))))))
set_option maxHeartbeats 4000000 in
theorem A_X1_tell {l : Launch} {G : aG} {d mc ms : Nat} {P : aR → aH → Prop} {x0 : Nat} {x1 : Int32} {x2 : Int32} {x3 : Int32} {x4 : Int32} {h : aH} (hl : l.stackTraces = false) (hv : V_X1_tell_0 l G d mc ms P x0 x1 x2 x3 x4 h) : aC l G mX1_tell (wsN mX1_tell) d mc ms [.ref x0, .int x1, .int x2, .int x3, .int x4] h P := by
  refine aC_ofF (M := mX1_tell) rfl pX1_tell (Nat.le_of_ble_eq_true rfl) hl ?_
  refine aw_eqv (lv2 := [(0, .ref x0), (1, .int x1), (2, .int x2), (3, .int x3), (4, .int x4)]) rfl rfl rfl rfl ?_
  unfold V_X1_tell_0 at hv
  refine aw_aload_n 0 (x := x0) dX1_tell_0 rfl rfl ?_
  refine aw_iload_n 1 dX1_tell_1 rfl rfl ?_
  obtain ⟨⟨fs, he⟩, hv⟩ := hv
  obtain ⟨d2, mc2, ms2, Q, hM, hd9, hc9, hs9, hv, hx⟩ := hv
  refine aw_callV (rest := []) hM he rfl rfl nX1_checkEdge q1368 q1370 qs40 q119 q1371 dX1_tell_2 rfl hd9 (by decide) (Nat.le_of_ble_eq_true rfl) hc9 hs9 ?_ ?_
  rotate_left
  · exact fun E h2 q => aX_out (hx E h2 q) rfl hc9 hs9
  intro v9 h2 hq
  have hv := hv v9 h2 hq
  obtain ⟨rfl, hv⟩ := hv
  refine aw_eqv (pc2 := 5) (st2 := []) rfl rfl rfl rfl ?_
  revert hv hc9 hs9; generalize 0 + mc2 = c3; generalize 0 + ms2 = s4; intro hc9 hs9 hv
  refine aw_aload_n 0 (x := x0) dX1_tell_5 rfl rfl ?_
  refine aw_iload_n 2 dX1_tell_6 rfl rfl ?_
  obtain ⟨⟨fs, he⟩, hv⟩ := hv
  obtain ⟨d2, mc2, ms2, Q, hM, hd9, hc9, hs9, hv, hx⟩ := hv
  refine aw_callV (rest := []) hM he rfl rfl nX1_checkLetter q1390 q1392 qs41 q119 q1393 dX1_tell_7 rfl hd9 (by decide) (Nat.le_of_ble_eq_true rfl) hc9 hs9 ?_ ?_
  rotate_left
  · exact fun E h2 q => aX_out (hx E h2 q) rfl hc9 hs9
  intro v9 h6 hq
  have hv := hv v9 h6 hq
  obtain ⟨rfl, hv⟩ := hv
  refine aw_eqv (pc2 := 10) (st2 := []) rfl rfl rfl rfl ?_
  revert hv hc9 hs9; generalize c3 + mc2 = c7; generalize s4 + ms2 = s8; intro hc9 hs9 hv
  refine aw_aload_n 0 (x := x0) dX1_tell_10 rfl rfl ?_
  refine aw_iload 4 dX1_tell_11 rfl ?_
  obtain ⟨⟨fs, he⟩, hv⟩ := hv
  obtain ⟨d2, mc2, ms2, Q, hM, hd9, hc9, hs9, hv, hx⟩ := hv
  refine aw_callV (rest := []) hM he rfl rfl nX1_recordIf q464 q466 qs6 q119 q467 dX1_tell_13 rfl hd9 (by decide) (Nat.le_of_ble_eq_true rfl) hc9 hs9 ?_ ?_
  rotate_left
  · exact fun E h2 q => aX_out (hx E h2 q) rfl hc9 hs9
  intro v9 h10 hq
  have hv := hv v9 h10 hq
  obtain ⟨rfl, hv⟩ := hv
  refine aw_eqv (pc2 := 16) (st2 := []) rfl rfl rfl rfl ?_
  revert hv hc9 hs9; generalize c7 + mc2 = c11; generalize s8 + ms2 = s12; intro hc9 hs9 hv
  refine aw_aload_n 0 (x := x0) dX1_tell_16 rfl rfl ?_
  obtain ⟨fs, a13, he, hx, hv⟩ := hv
  refine aw_get (v := .ref a13) he rfl in_X1 1 (by decide) q435 (Or.inl rfl) hx dX1_tell_17 ?_
  refine aw_iload_n 1 dX1_tell_20 rfl rfl ?_
  refine aw_iload_n 2 dX1_tell_21 rfl rfl ?_
  refine aw_iload_n 3 dX1_tell_22 rfl rfl ?_
  obtain ⟨⟨fs, he⟩, hv⟩ := hv
  obtain ⟨d2, mc2, ms2, Q, hM, hd9, hc9, hs9, hv, hx⟩ := hv
  refine aw_callV (rest := []) hM he rfl rfl nX3_tell q558 q559 q560 q121 q561 dX1_tell_23 rfl hd9 (by decide) (Nat.le_of_ble_eq_true rfl) hc9 hs9 ?_ ?_
  rotate_left
  · exact fun E h2 q => aX_out (hx E h2 q) rfl hc9 hs9
  intro v9 h15 hq
  have hv := hv v9 h15 hq
  obtain ⟨y14, rfl, hv⟩ := hv
  refine aw_eqv (pc2 := 26) (st2 := [.int y14]) rfl rfl rfl rfl ?_
  revert hv hc9 hs9; generalize c11 + mc2 = c16; generalize s12 + ms2 = s17; intro hc9 hs9 hv
  exact aw_iret rfl dX1_tell_26 hv hc9 hs9
def V_X1_setTelling_0 (l : Launch) (G : aG) (d mc ms : Nat) (P : aR → aH → Prop) (x0 : Nat) (x1 : Int32) (x2 : Int32) (x3 : Int32) (h : aH) : Prop :=
  vIs h x0 1 (
  vC l G mX1_tell (wsN mX1_tell) d mc ms [.ref x0, .int x1, .int x2, .int x3, .int 1] h 0 0 (xP P) (kI fun y1 h2 c3 s4 => 
  P (.inl (some (.int y1))) h2))
set_option maxHeartbeats 4000000 in
theorem A_X1_setTelling {l : Launch} {G : aG} {d mc ms : Nat} {P : aR → aH → Prop} {x0 : Nat} {x1 : Int32} {x2 : Int32} {x3 : Int32} {h : aH} (hl : l.stackTraces = false) (hv : V_X1_setTelling_0 l G d mc ms P x0 x1 x2 x3 h) : aC l G mX1_setTelling (wsN mX1_setTelling) d mc ms [.ref x0, .int x1, .int x2, .int x3] h P := by
  refine aC_ofF (M := mX1_setTelling) rfl pX1_setTelling (Nat.le_of_ble_eq_true rfl) hl ?_
  refine aw_eqv (lv2 := [(0, .ref x0), (1, .int x1), (2, .int x2), (3, .int x3)]) rfl rfl rfl rfl ?_
  unfold V_X1_setTelling_0 at hv
  refine aw_aload_n 0 (x := x0) dX1_setTelling_0 rfl rfl ?_
  refine aw_iload_n 1 dX1_setTelling_1 rfl rfl ?_
  refine aw_iload_n 2 dX1_setTelling_2 rfl rfl ?_
  refine aw_iload_n 3 dX1_setTelling_3 rfl rfl ?_
  refine aw_iconst (v := 1) dX1_setTelling_4 (by decide) ?_
  obtain ⟨⟨fs, he⟩, hv⟩ := hv
  obtain ⟨d2, mc2, ms2, Q, hM, hd9, hc9, hs9, hv, hx⟩ := hv
  refine aw_callV (rest := []) hM he rfl rfl nX1_tell q1364 q1366 qs39 q119 q1367 dX1_setTelling_5 rfl hd9 (by decide) (Nat.le_of_ble_eq_true rfl) hc9 hs9 ?_ ?_
  rotate_left
  · exact fun E h2 q => aX_out (hx E h2 q) rfl hc9 hs9
  intro v9 h2 hq
  have hv := hv v9 h2 hq
  obtain ⟨y1, rfl, hv⟩ := hv
  refine aw_eqv (pc2 := 8) (st2 := [.int y1]) rfl rfl rfl rfl ?_
  revert hv hc9 hs9; generalize 0 + mc2 = c3; generalize 0 + ms2 = s4; intro hc9 hs9 hv
  exact aw_iret rfl dX1_setTelling_8 hv hc9 hs9
def V_X1_checkState_0 (l : Launch) (G : aG) (d mc ms : Nat) (P : aR → aH → Prop) (x0 : Int32) (h : aH) : Prop :=
  (¬ x0 = 0 → 
    P (.inl none) h
    ) ∧ (x0 = 0 → 
    6 ≤ d ∧ 0 + 1 ≤ mc ∧ 0 + 6 ≤ ms ∧ P (.inr "java/lang/IllegalStateException") h
    )
set_option maxHeartbeats 4000000 in
theorem A_X1_checkState {l : Launch} {G : aG} {d mc ms : Nat} {P : aR → aH → Prop} {x0 : Int32} {h : aH} (hl : l.stackTraces = false) (hv : V_X1_checkState_0 l G d mc ms P x0 h) : aC l G mX1_checkState (wsN mX1_checkState) d mc ms [.int x0] h P := by
  refine aC_ofF (M := mX1_checkState) rfl pX1_checkState (Nat.le_of_ble_eq_true rfl) hl ?_
  refine aw_eqv (lv2 := [(0, .int x0)]) rfl rfl rfl rfl ?_
  unfold V_X1_checkState_0 at hv
  refine aw_iload_n 0 dX1_checkState_0 rfl rfl ?_
  refine aw_if_ne 12 dX1_checkState_1 (by decide) (fun c1 => ?_) (fun c1 => ?_)
  · have hv := hv.1 c1
    exact aw_vret rfl dX1_checkState_12 hv (Nat.zero_le _) (Nat.zero_le _)
  · have hv := hv.2 c1
    obtain ⟨w6, hc9, hs9, hv⟩ := hv
    exact aw_throw0 (names := ["java/lang/RuntimeException", "java/lang/Exception"]) (ik := 10) (ic := 12) (by decide) (by decide) q1409 q146 (by decide +kernel) (by decide +kernel) dX1_checkState_4 dX1_checkState_7 dX1_checkState_8 dX1_checkState_11 rfl w6 (Nat.le_of_ble_eq_true rfl) hc9 hs9 hv
def V_X1_untell_0 (l : Launch) (G : aG) (d mc ms : Nat) (P : aR → aH → Prop) (x0 : Nat) (x1 : Int32) (x2 : Int32) (h : aH) : Prop :=
  vIs h x0 1 (
  vC l G mX1_checkEdge (wsN mX1_checkEdge) d mc ms [.ref x0, .int x1] h 0 0 (xP P) (kV fun h2 c3 s4 => 
  vR h2 x0 1 1 fun a5 =>
  vR h2 a5 3 0 fun a6 =>
  vA .int h2 a6 x1 fun y7 =>
  vC l G mX1_checkState (wsN mX1_checkState) d mc ms [.int (if y7 = ((-1)) then (0 : Int32) else 1)] h2 c3 s4 (xP P) (kV fun h10 c11 s12 => 
  vIs h10 x0 1 (
  vC l G mX1_recordIf (wsN mX1_recordIf) d mc ms [.ref x0, .int x2] h10 c11 s12 (xP P) (kV fun h14 c15 s16 => 
  vR h14 x0 1 1 fun a17 =>
  vIs h14 a17 3 (
  vC l G mX3_tell (wsN mX3_tell) d mc ms [.ref a17, .int x1, .int ((-1)), .int 0] h14 c15 s16 (xP P) (kI fun y18 h19 c20 s21 => 
  vR h19 x0 1 1 fun a22 =>
  vIs h19 a22 3 (
  vC l G mX3_told (wsN mX3_told) d mc ms [.ref a22] h19 c20 s21 (xP P) (kI fun y23 h24 c25 s26 => 
  P (.inl (some (.int y23))) h24)))))))))
set_option maxHeartbeats 4000000 in
theorem A_X1_untell {l : Launch} {G : aG} {d mc ms : Nat} {P : aR → aH → Prop} {x0 : Nat} {x1 : Int32} {x2 : Int32} {h : aH} (hl : l.stackTraces = false) (hv : V_X1_untell_0 l G d mc ms P x0 x1 x2 h) : aC l G mX1_untell (wsN mX1_untell) d mc ms [.ref x0, .int x1, .int x2] h P := by
  refine aC_ofF (M := mX1_untell) rfl pX1_untell (Nat.le_of_ble_eq_true rfl) hl ?_
  refine aw_eqv (lv2 := [(0, .ref x0), (1, .int x1), (2, .int x2)]) rfl rfl rfl rfl ?_
  unfold V_X1_untell_0 at hv
  refine aw_aload_n 0 (x := x0) dX1_untell_0 rfl rfl ?_
  refine aw_iload_n 1 dX1_untell_1 rfl rfl ?_
  obtain ⟨⟨fs, he⟩, hv⟩ := hv
  obtain ⟨d2, mc2, ms2, Q, hM, hd9, hc9, hs9, hv, hx⟩ := hv
  refine aw_callV (rest := []) hM he rfl rfl nX1_checkEdge q1368 q1370 qs40 q119 q1371 dX1_untell_2 rfl hd9 (by decide) (Nat.le_of_ble_eq_true rfl) hc9 hs9 ?_ ?_
  rotate_left
  · exact fun E h2 q => aX_out (hx E h2 q) rfl hc9 hs9
  intro v9 h2 hq
  have hv := hv v9 h2 hq
  obtain ⟨rfl, hv⟩ := hv
  refine aw_eqv (pc2 := 5) (st2 := []) rfl rfl rfl rfl ?_
  revert hv hc9 hs9; generalize 0 + mc2 = c3; generalize 0 + ms2 = s4; intro hc9 hs9 hv
  refine aw_aload_n 0 (x := x0) dX1_untell_5 rfl rfl ?_
  obtain ⟨fs, a5, he, hx, hv⟩ := hv
  refine aw_get (v := .ref a5) he rfl in_X1 1 (by decide) q435 (Or.inl rfl) hx dX1_untell_6 ?_
  obtain ⟨fs, a6, he, hx, hv⟩ := hv
  refine aw_getN (v := .ref a6) he rfl in_X3 0 (by decide) q322 (Or.inl rfl) hx dX1_untell_9 ?_
  refine aw_iload_n 1 dX1_untell_12 rfl rfl ?_
  obtain ⟨n9, f9, he, hin, hv⟩ := hv
  refine aw_iald he hin dX1_untell_13 ?_
  revert hv; generalize f9 (x1).toNatClampNeg = y7; intro hv
  refine aw_iconst (v := (-1)) dX1_untell_14 (by decide) ?_
  have J9 : AW l G mX1_untell d mc ms P 23 [(0, .ref x0), (1, .int x1), (2, .int x2)] [.int (if y7 = ((-1)) then (0 : Int32) else 1)] h2 c3 s4 := by
    obtain ⟨d2, mc2, ms2, Q, hM, hd9, hc9, hs9, hv, hx⟩ := hv
    refine aw_callS (rest := []) hM nX1_checkState q1406 q1407 q119 q1408 dX1_untell_23 rfl hd9 (by decide) (Nat.le_of_ble_eq_true rfl) hc9 hs9 ?_ ?_
    rotate_left
    · exact fun E h2 q => aX_out (hx E h2 q) rfl hc9 hs9
    intro v9 h10 hq
    have hv := hv v9 h10 hq
    obtain ⟨rfl, hv⟩ := hv
    refine aw_eqv (pc2 := 26) (st2 := []) rfl rfl rfl rfl ?_
    revert hv hc9 hs9; generalize c3 + mc2 = c11; generalize s4 + ms2 = s12; intro hc9 hs9 hv
    refine aw_aload_n 0 (x := x0) dX1_untell_26 rfl rfl ?_
    refine aw_iload_n 2 dX1_untell_27 rfl rfl ?_
    obtain ⟨⟨fs, he⟩, hv⟩ := hv
    obtain ⟨d2, mc2, ms2, Q, hM, hd9, hc9, hs9, hv, hx⟩ := hv
    refine aw_callV (rest := []) hM he rfl rfl nX1_recordIf q464 q466 qs6 q119 q467 dX1_untell_28 rfl hd9 (by decide) (Nat.le_of_ble_eq_true rfl) hc9 hs9 ?_ ?_
    rotate_left
    · exact fun E h2 q => aX_out (hx E h2 q) rfl hc9 hs9
    intro v9 h14 hq
    have hv := hv v9 h14 hq
    obtain ⟨rfl, hv⟩ := hv
    refine aw_eqv (pc2 := 31) (st2 := []) rfl rfl rfl rfl ?_
    revert hv hc9 hs9; generalize c11 + mc2 = c15; generalize s12 + ms2 = s16; intro hc9 hs9 hv
    refine aw_aload_n 0 (x := x0) dX1_untell_31 rfl rfl ?_
    obtain ⟨fs, a17, he, hx, hv⟩ := hv
    refine aw_get (v := .ref a17) he rfl in_X1 1 (by decide) q435 (Or.inl rfl) hx dX1_untell_32 ?_
    refine aw_iload_n 1 dX1_untell_35 rfl rfl ?_
    refine aw_iconst (v := (-1)) dX1_untell_36 (by decide) ?_
    refine aw_iconst (v := 0) dX1_untell_37 (by decide) ?_
    obtain ⟨⟨fs, he⟩, hv⟩ := hv
    obtain ⟨d2, mc2, ms2, Q, hM, hd9, hc9, hs9, hv, hx⟩ := hv
    refine aw_callV (rest := []) hM he rfl rfl nX3_tell q558 q559 q560 q121 q561 dX1_untell_38 rfl hd9 (by decide) (Nat.le_of_ble_eq_true rfl) hc9 hs9 ?_ ?_
    rotate_left
    · exact fun E h2 q => aX_out (hx E h2 q) rfl hc9 hs9
    intro v9 h19 hq
    have hv := hv v9 h19 hq
    obtain ⟨y18, rfl, hv⟩ := hv
    refine aw_eqv (pc2 := 41) (st2 := [.int y18]) rfl rfl rfl rfl ?_
    revert hv hc9 hs9; generalize c15 + mc2 = c20; generalize s16 + ms2 = s21; intro hc9 hs9 hv
    refine aw_istore_n (lv' := [(3, .int y18), (0, .ref x0), (1, .int x1), (2, .int x2)]) dX1_untell_41 rfl (Nat.le_of_ble_eq_true rfl) rfl ?_
    refine aw_aload_n 1 (x := x0) dX1_untell_42 rfl rfl ?_
    obtain ⟨fs, a22, he, hx, hv⟩ := hv
    refine aw_get (v := .ref a22) he rfl in_X1 1 (by decide) q435 (Or.inl rfl) hx dX1_untell_43 ?_
    obtain ⟨⟨fs, he⟩, hv⟩ := hv
    obtain ⟨d2, mc2, ms2, Q, hM, hd9, hc9, hs9, hv, hx⟩ := hv
    refine aw_callV (rest := []) hM he rfl rfl nX3_told q562 q563 q564 q121 q565 dX1_untell_46 rfl hd9 (by decide) (Nat.le_of_ble_eq_true rfl) hc9 hs9 ?_ ?_
    rotate_left
    · exact fun E h2 q => aX_out (hx E h2 q) rfl hc9 hs9
    intro v9 h24 hq
    have hv := hv v9 h24 hq
    obtain ⟨y23, rfl, hv⟩ := hv
    refine aw_eqv (pc2 := 49) (st2 := [.int y23]) rfl rfl rfl rfl ?_
    revert hv hc9 hs9; generalize c20 + mc2 = c25; generalize s21 + ms2 = s26; intro hc9 hs9 hv
    exact aw_iret rfl dX1_untell_49 hv hc9 hs9
  refine aw_icmp_eq 22 dX1_untell_15 (by decide) (fun c8 => ?_) (fun c8 => ?_)
  · have J9 := aw_ifT c8 J9
    refine aw_iconst (v := 0) dX1_untell_22 (by decide) ?_
    exact J9
  · have J9 := aw_ifF c8 J9
    refine aw_iconst (v := 1) dX1_untell_18 (by decide) ?_
    refine aw_goto 23 dX1_untell_19 (by decide) ?_
    exact J9
def V_X1_clearTelling_0 (l : Launch) (G : aG) (d mc ms : Nat) (P : aR → aH → Prop) (x0 : Nat) (x1 : Int32) (h : aH) : Prop :=
  vIs h x0 1 (
  vC l G mX1_untell (wsN mX1_untell) d mc ms [.ref x0, .int x1, .int 1] h 0 0 (xP P) (kI fun y1 h2 c3 s4 => 
  P (.inl (some (.int y1))) h2))
set_option maxHeartbeats 4000000 in
theorem A_X1_clearTelling {l : Launch} {G : aG} {d mc ms : Nat} {P : aR → aH → Prop} {x0 : Nat} {x1 : Int32} {h : aH} (hl : l.stackTraces = false) (hv : V_X1_clearTelling_0 l G d mc ms P x0 x1 h) : aC l G mX1_clearTelling (wsN mX1_clearTelling) d mc ms [.ref x0, .int x1] h P := by
  refine aC_ofF (M := mX1_clearTelling) rfl pX1_clearTelling (Nat.le_of_ble_eq_true rfl) hl ?_
  refine aw_eqv (lv2 := [(0, .ref x0), (1, .int x1)]) rfl rfl rfl rfl ?_
  unfold V_X1_clearTelling_0 at hv
  refine aw_aload_n 0 (x := x0) dX1_clearTelling_0 rfl rfl ?_
  refine aw_iload_n 1 dX1_clearTelling_1 rfl rfl ?_
  refine aw_iconst (v := 1) dX1_clearTelling_2 (by decide) ?_
  obtain ⟨⟨fs, he⟩, hv⟩ := hv
  obtain ⟨d2, mc2, ms2, Q, hM, hd9, hc9, hs9, hv, hx⟩ := hv
  refine aw_callV (rest := []) hM he rfl rfl nX1_untell q1402 q1404 qs42 q119 q1405 dX1_clearTelling_3 rfl hd9 (by decide) (Nat.le_of_ble_eq_true rfl) hc9 hs9 ?_ ?_
  rotate_left
  · exact fun E h2 q => aX_out (hx E h2 q) rfl hc9 hs9
  intro v9 h2 hq
  have hv := hv v9 h2 hq
  obtain ⟨y1, rfl, hv⟩ := hv
  refine aw_eqv (pc2 := 6) (st2 := [.int y1]) rfl rfl rfl rfl ?_
  revert hv hc9 hs9; generalize 0 + mc2 = c3; generalize 0 + ms2 = s4; intro hc9 hs9 hv
  exact aw_iret rfl dX1_clearTelling_6 hv hc9 hs9
def T_X1_exchange_17 (l : Launch) (G : aG) (d mc ms : Nat) (P : aR → aH → Prop) (x0 : Nat) (x1 : Int32) (x2 : Int32) (x3 : Int32) (h : aH) (c s : Nat) : Prop := c ≤ mc → s ≤ ms → AW l G mX1_exchange d mc ms P 17 [(0, .ref x0), (1, .int x1), (2, .int x2), (3, .int x3)] [] h c s
def V_X1_exchange_17 (l : Launch) (G : aG) (d mc ms : Nat) (P : aR → aH → Prop) (x0 : Nat) (x1 : Int32) (x2 : Int32) (x3 : Int32) (h : aH) (c s : Nat) : Prop :=
  vR h x0 1 1 fun a1 =>
  vIs h a1 3 (
  vC l G mX3_cellCount (wsN mX3_cellCount) d mc ms [.ref a1] h c s (xP P) (kI fun y2 h3 c4 s5 => 
  (y2 ≤ x3 → 
    vR h3 x0 1 1 fun a7 =>
    vIs h3 a7 3 (
    vC l G mX3_exchange (wsN mX3_exchange) d mc ms [.ref a7, .int x1, .int x2] h3 c4 s5 (xP P) (kI fun y8 h9 c10 s11 => 
    P (.inl (some (.int y8))) h9))
    ) ∧ (¬ y2 ≤ x3 → 
    vR h3 x0 1 2 fun a12 =>
    vR h3 a12 5 1 fun a13 =>
    vA .int h3 a13 x3 fun y14 =>
    vC l G mX1_has (wsN mX1_has) d mc ms [.int y14, .int x1] h3 c4 s5 (xP P) (kI fun y15 h16 c17 s18 => 
    vR h16 x0 1 2 fun a19 =>
    vR h16 a19 5 1 fun a20 =>
    vA .int h16 a20 x3 fun y21 =>
    vC l G mX1_has (wsN mX1_has) d mc ms [.int y21, .int x2] h16 c17 s18 (xP P) (kI fun y22 h23 c24 s25 => 
    vR h23 x0 1 2 fun a27 =>
    vR h23 a27 5 1 fun a28 =>
    vA .int h23 a28 x3 fun y29 =>
    vSt .int h23 a28 x3 (y29 ^^^ (if (if y15 = y22 then (0 : Int32) else 1) = 0 then (0 : Int32) else ((1 : Int32) <<< (x1 &&& 31)) ||| ((1 : Int32) <<< (x2 &&& 31)))) fun h31 =>
    T_X1_exchange_17 l G d mc ms P x0 x1 x2 (x3 + 1) h31 c24 s25))
    )))
set_option maxHeartbeats 4000000 in
theorem A_X1_exchange_17 {l : Launch} {G : aG} {d mc ms : Nat} {P : aR → aH → Prop} {x0 : Nat} {x1 : Int32} {x2 : Int32} {x3 : Int32} {h : aH} {c s : Nat} (hl : l.stackTraces = false) (hv : V_X1_exchange_17 l G d mc ms P x0 x1 x2 x3 h c s) : T_X1_exchange_17 l G d mc ms P x0 x1 x2 x3 h c s := by
  intro hc hs
  unfold V_X1_exchange_17 at hv
  refine aw_iload_n 3 dX1_exchange_17 rfl rfl ?_
  refine aw_aload_n 0 (x := x0) dX1_exchange_18 rfl rfl ?_
  obtain ⟨fs, a1, he, hx, hv⟩ := hv
  refine aw_get (v := .ref a1) he rfl in_X1 1 (by decide) q435 (Or.inl rfl) hx dX1_exchange_19 ?_
  obtain ⟨⟨fs, he⟩, hv⟩ := hv
  obtain ⟨d2, mc2, ms2, Q, hM, hd9, hc9, hs9, hv, hx⟩ := hv
  refine aw_callV (rest := [.int x3]) hM he rfl rfl nX3_cellCount q572 q369 q370 q121 q371 dX1_exchange_22 rfl hd9 (by decide) (Nat.le_of_ble_eq_true rfl) hc9 hs9 ?_ ?_
  rotate_left
  · exact fun E h2 q => aX_out (hx E h2 q) rfl hc9 hs9
  intro v9 h3 hq
  have hv := hv v9 h3 hq
  obtain ⟨y2, rfl, hv⟩ := hv
  refine aw_eqv (pc2 := 25) (st2 := [.int y2, .int x3]) rfl rfl rfl rfl ?_
  revert hv hc9 hs9; generalize c + mc2 = c4; generalize s + ms2 = s5; intro hc9 hs9 hv
  refine aw_icmp_ge 98 dX1_exchange_25 (by decide) (fun c6 => ?_) (fun c6 => ?_)
  · have hv := hv.1 c6
    refine aw_aload_n 0 (x := x0) dX1_exchange_98 rfl rfl ?_
    obtain ⟨fs, a7, he, hx, hv⟩ := hv
    refine aw_get (v := .ref a7) he rfl in_X1 1 (by decide) q435 (Or.inl rfl) hx dX1_exchange_99 ?_
    refine aw_iload_n 1 dX1_exchange_102 rfl rfl ?_
    refine aw_iload_n 2 dX1_exchange_103 rfl rfl ?_
    obtain ⟨⟨fs, he⟩, hv⟩ := hv
    obtain ⟨d2, mc2, ms2, Q, hM, hd9, hc9, hs9, hv, hx⟩ := hv
    refine aw_callV (rest := []) hM he rfl rfl nX3_exchange q1431 q1432 q1433 q121 q1434 dX1_exchange_104 rfl hd9 (by decide) (Nat.le_of_ble_eq_true rfl) hc9 hs9 ?_ ?_
    rotate_left
    · exact fun E h2 q => aX_out (hx E h2 q) rfl hc9 hs9
    intro v9 h9 hq
    have hv := hv v9 h9 hq
    obtain ⟨y8, rfl, hv⟩ := hv
    refine aw_eqv (pc2 := 107) (st2 := [.int y8]) rfl rfl rfl rfl ?_
    revert hv hc9 hs9; generalize c4 + mc2 = c10; generalize s5 + ms2 = s11; intro hc9 hs9 hv
    exact aw_iret rfl dX1_exchange_107 hv hc9 hs9
  · have hv := hv.2 c6
    refine aw_aload_n 0 (x := x0) dX1_exchange_28 rfl rfl ?_
    obtain ⟨fs, a12, he, hx, hv⟩ := hv
    refine aw_get (v := .ref a12) he rfl in_X1 2 (by decide) q436 (Or.inl rfl) hx dX1_exchange_29 ?_
    obtain ⟨fs, a13, he, hx, hv⟩ := hv
    refine aw_getN (v := .ref a13) he rfl in_X5 1 (by decide) q378 (Or.inl rfl) hx dX1_exchange_32 ?_
    refine aw_iload_n 3 dX1_exchange_35 rfl rfl ?_
    obtain ⟨n9, f9, he, hin, hv⟩ := hv
    refine aw_iald he hin dX1_exchange_36 ?_
    revert hv; generalize f9 (x3).toNatClampNeg = y14; intro hv
    refine aw_iload_n 1 dX1_exchange_37 rfl rfl ?_
    obtain ⟨d2, mc2, ms2, Q, hM, hd9, hc9, hs9, hv, hx⟩ := hv
    refine aw_callS (rest := []) hM nX1_has q582 q298 q119 q299 dX1_exchange_38 rfl hd9 (by decide) (Nat.le_of_ble_eq_true rfl) hc9 hs9 ?_ ?_
    rotate_left
    · exact fun E h2 q => aX_out (hx E h2 q) rfl hc9 hs9
    intro v9 h16 hq
    have hv := hv v9 h16 hq
    obtain ⟨y15, rfl, hv⟩ := hv
    refine aw_eqv (pc2 := 41) (st2 := [.int y15]) rfl rfl rfl rfl ?_
    revert hv hc9 hs9; generalize c4 + mc2 = c17; generalize s5 + ms2 = s18; intro hc9 hs9 hv
    refine aw_aload_n 0 (x := x0) dX1_exchange_41 rfl rfl ?_
    obtain ⟨fs, a19, he, hx, hv⟩ := hv
    refine aw_get (v := .ref a19) he rfl in_X1 2 (by decide) q436 (Or.inl rfl) hx dX1_exchange_42 ?_
    obtain ⟨fs, a20, he, hx, hv⟩ := hv
    refine aw_getN (v := .ref a20) he rfl in_X5 1 (by decide) q378 (Or.inl rfl) hx dX1_exchange_45 ?_
    refine aw_iload_n 3 dX1_exchange_48 rfl rfl ?_
    obtain ⟨n9, f9, he, hin, hv⟩ := hv
    refine aw_iald he hin dX1_exchange_49 ?_
    revert hv; generalize f9 (x3).toNatClampNeg = y21; intro hv
    refine aw_iload_n 2 dX1_exchange_50 rfl rfl ?_
    obtain ⟨d2, mc2, ms2, Q, hM, hd9, hc9, hs9, hv, hx⟩ := hv
    refine aw_callS (rest := [.int y15]) hM nX1_has q582 q298 q119 q299 dX1_exchange_51 rfl hd9 (by decide) (Nat.le_of_ble_eq_true rfl) hc9 hs9 ?_ ?_
    rotate_left
    · exact fun E h2 q => aX_out (hx E h2 q) rfl hc9 hs9
    intro v9 h23 hq
    have hv := hv v9 h23 hq
    obtain ⟨y22, rfl, hv⟩ := hv
    refine aw_eqv (pc2 := 54) (st2 := [.int y22, .int y15]) rfl rfl rfl rfl ?_
    revert hv hc9 hs9; generalize c17 + mc2 = c24; generalize s18 + ms2 = s25; intro hc9 hs9 hv
    have J9 : AW l G mX1_exchange d mc ms P 62 [(0, .ref x0), (1, .int x1), (2, .int x2), (3, .int x3)] [.int (if y15 = y22 then (0 : Int32) else 1)] h23 c24 s25 := by
      refine aw_istore (lv' := [(4, .int (if y15 = y22 then (0 : Int32) else 1)), (0, .ref x0), (1, .int x1), (2, .int x2), (3, .int x3)]) dX1_exchange_62 (Nat.le_of_ble_eq_true rfl) rfl ?_
      refine aw_aload_n 1 (x := x0) dX1_exchange_64 rfl rfl ?_
      obtain ⟨fs, a27, he, hx, hv⟩ := hv
      refine aw_get (v := .ref a27) he rfl in_X1 2 (by decide) q436 (Or.inl rfl) hx dX1_exchange_65 ?_
      obtain ⟨fs, a28, he, hx, hv⟩ := hv
      refine aw_getN (v := .ref a28) he rfl in_X5 1 (by decide) q378 (Or.inl rfl) hx dX1_exchange_68 ?_
      refine aw_iload_n 4 dX1_exchange_71 rfl rfl ?_
      refine aw_dup2_11 dX1_exchange_72 rfl rfl ?_
      obtain ⟨n9, f9, he, hin, hv⟩ := hv
      refine aw_iald he hin dX1_exchange_73 ?_
      revert hv; generalize f9 (x3).toNatClampNeg = y29; intro hv
      refine aw_iload 0 dX1_exchange_74 rfl ?_
      have J9 : AW l G mX1_exchange d mc ms P 90 [(4, .int (if y15 = y22 then (0 : Int32) else 1)), (0, .ref x0), (1, .int x1), (2, .int x2), (3, .int x3)] [.int (if (if y15 = y22 then (0 : Int32) else 1) = 0 then (0 : Int32) else ((1 : Int32) <<< (x1 &&& 31)) ||| ((1 : Int32) <<< (x2 &&& 31))), .int y29, .int x3, .ref a28] h23 c24 s25 := by
        refine aw_ixor dX1_exchange_90 ?_
        obtain ⟨n9, f9, he, hin, hv⟩ := hv
        refine aw_iast he hin rfl dX1_exchange_91 ?_
        revert hv; generalize aUp h23 a28 (aInts .int n9 (upd f9 (x3).toNatClampNeg (y29 ^^^ (if (if y15 = y22 then (0 : Int32) else 1) = 0 then (0 : Int32) else ((1 : Int32) <<< (x1 &&& 31)) ||| ((1 : Int32) <<< (x2 &&& 31)))))) = h31; intro hv
        refine aw_iinc 4 (v := x3 + 1) (lv' := [(3, .int (x3 + 1)), (4, .int (if y15 = y22 then (0 : Int32) else 1)), (0, .ref x0), (1, .int x1), (2, .int x2)]) dX1_exchange_92 rfl rfl (Nat.le_of_ble_eq_true rfl) rfl ?_
        refine aw_goto 17 dX1_exchange_95 (by decide) ?_
        refine aw_sub [2, 3, 4, 0] rfl ?_
        exact hv hc9 hs9
      refine aw_if_eq 89 dX1_exchange_76 (by decide) (fun c30 => ?_) (fun c30 => ?_)
      · have J9 := aw_ifT c30 J9
        refine aw_iconst (v := 0) dX1_exchange_89 (by decide) ?_
        exact J9
      · have J9 := aw_ifF c30 J9
        refine aw_iconst (v := 1) dX1_exchange_79 (by decide) ?_
        refine aw_iload_n 2 dX1_exchange_80 rfl rfl ?_
        refine aw_ishl dX1_exchange_81 ?_
        refine aw_iconst (v := 1) dX1_exchange_82 (by decide) ?_
        refine aw_iload_n 3 dX1_exchange_83 rfl rfl ?_
        refine aw_ishl dX1_exchange_84 ?_
        refine aw_ior dX1_exchange_85 ?_
        refine aw_goto 90 dX1_exchange_86 (by decide) ?_
        exact J9
    refine aw_icmp_eq 61 dX1_exchange_54 (by decide) (fun c26 => ?_) (fun c26 => ?_)
    · have J9 := aw_ifT c26 J9
      refine aw_iconst (v := 0) dX1_exchange_61 (by decide) ?_
      exact J9
    · have J9 := aw_ifF c26 J9
      refine aw_iconst (v := 1) dX1_exchange_57 (by decide) ?_
      refine aw_goto 62 dX1_exchange_58 (by decide) ?_
      exact J9
def V_X1_exchange_0 (l : Launch) (G : aG) (d mc ms : Nat) (P : aR → aH → Prop) (x0 : Nat) (x1 : Int32) (x2 : Int32) (h : aH) : Prop :=
  vIs h x0 1 (
  vC l G mX1_checkLetter (wsN mX1_checkLetter) d mc ms [.ref x0, .int x1] h 0 0 (xP P) (kV fun h33 c34 s35 => 
  vIs h33 x0 1 (
  vC l G mX1_checkLetter (wsN mX1_checkLetter) d mc ms [.ref x0, .int x2] h33 c34 s35 (xP P) (kV fun h37 c38 s39 => 
  vIs h37 x0 1 (
  vC l G mX1_recordIf (wsN mX1_recordIf) d mc ms [.ref x0, .int 1] h37 c38 s39 (xP P) (kV fun h41 c42 s43 => 
  T_X1_exchange_17 l G d mc ms P x0 x1 x2 0 h41 c42 s43))))))
set_option maxHeartbeats 4000000 in
theorem A_X1_exchange {l : Launch} {G : aG} {d mc ms : Nat} {P : aR → aH → Prop} {x0 : Nat} {x1 : Int32} {x2 : Int32} {h : aH} (hl : l.stackTraces = false) (hv : V_X1_exchange_0 l G d mc ms P x0 x1 x2 h) : aC l G mX1_exchange (wsN mX1_exchange) d mc ms [.ref x0, .int x1, .int x2] h P := by
  refine aC_ofF (M := mX1_exchange) rfl pX1_exchange (Nat.le_of_ble_eq_true rfl) hl ?_
  refine aw_eqv (lv2 := [(0, .ref x0), (1, .int x1), (2, .int x2)]) rfl rfl rfl rfl ?_
  unfold V_X1_exchange_0 at hv
  refine aw_aload_n 0 (x := x0) dX1_exchange_0 rfl rfl ?_
  refine aw_iload_n 1 dX1_exchange_1 rfl rfl ?_
  obtain ⟨⟨fs, he⟩, hv⟩ := hv
  obtain ⟨d2, mc2, ms2, Q, hM, hd9, hc9, hs9, hv, hx⟩ := hv
  refine aw_callV (rest := []) hM he rfl rfl nX1_checkLetter q1390 q1392 qs41 q119 q1393 dX1_exchange_2 rfl hd9 (by decide) (Nat.le_of_ble_eq_true rfl) hc9 hs9 ?_ ?_
  rotate_left
  · exact fun E h2 q => aX_out (hx E h2 q) rfl hc9 hs9
  intro v9 h33 hq
  have hv := hv v9 h33 hq
  obtain ⟨rfl, hv⟩ := hv
  refine aw_eqv (pc2 := 5) (st2 := []) rfl rfl rfl rfl ?_
  revert hv hc9 hs9; generalize 0 + mc2 = c34; generalize 0 + ms2 = s35; intro hc9 hs9 hv
  refine aw_aload_n 0 (x := x0) dX1_exchange_5 rfl rfl ?_
  refine aw_iload_n 2 dX1_exchange_6 rfl rfl ?_
  obtain ⟨⟨fs, he⟩, hv⟩ := hv
  obtain ⟨d2, mc2, ms2, Q, hM, hd9, hc9, hs9, hv, hx⟩ := hv
  refine aw_callV (rest := []) hM he rfl rfl nX1_checkLetter q1390 q1392 qs41 q119 q1393 dX1_exchange_7 rfl hd9 (by decide) (Nat.le_of_ble_eq_true rfl) hc9 hs9 ?_ ?_
  rotate_left
  · exact fun E h2 q => aX_out (hx E h2 q) rfl hc9 hs9
  intro v9 h37 hq
  have hv := hv v9 h37 hq
  obtain ⟨rfl, hv⟩ := hv
  refine aw_eqv (pc2 := 10) (st2 := []) rfl rfl rfl rfl ?_
  revert hv hc9 hs9; generalize c34 + mc2 = c38; generalize s35 + ms2 = s39; intro hc9 hs9 hv
  refine aw_aload_n 0 (x := x0) dX1_exchange_10 rfl rfl ?_
  refine aw_iconst (v := 1) dX1_exchange_11 (by decide) ?_
  obtain ⟨⟨fs, he⟩, hv⟩ := hv
  obtain ⟨d2, mc2, ms2, Q, hM, hd9, hc9, hs9, hv, hx⟩ := hv
  refine aw_callV (rest := []) hM he rfl rfl nX1_recordIf q464 q466 qs6 q119 q467 dX1_exchange_12 rfl hd9 (by decide) (Nat.le_of_ble_eq_true rfl) hc9 hs9 ?_ ?_
  rotate_left
  · exact fun E h2 q => aX_out (hx E h2 q) rfl hc9 hs9
  intro v9 h41 hq
  have hv := hv v9 h41 hq
  obtain ⟨rfl, hv⟩ := hv
  refine aw_eqv (pc2 := 15) (st2 := []) rfl rfl rfl rfl ?_
  revert hv hc9 hs9; generalize c38 + mc2 = c42; generalize s39 + ms2 = s43; intro hc9 hs9 hv
  refine aw_iconst (v := 0) dX1_exchange_15 (by decide) ?_
  refine aw_istore_n (lv' := [(3, .int 0), (0, .ref x0), (1, .int x1), (2, .int x2)]) dX1_exchange_16 rfl (Nat.le_of_ble_eq_true rfl) rfl ?_
  refine aw_sub [1, 2, 3, 0] rfl ?_
  exact hv hc9 hs9
def V_X1_tellingAt_0 (l : Launch) (G : aG) (d mc ms : Nat) (P : aR → aH → Prop) (x0 : Nat) (x1 : Int32) (h : aH) : Prop :=
  vIs h x0 1 (
  vC l G mX1_checkEdge (wsN mX1_checkEdge) d mc ms [.ref x0, .int x1] h 0 0 (xP P) (kV fun h2 c3 s4 => 
  vR h2 x0 1 1 fun a5 =>
  vR h2 a5 3 0 fun a6 =>
  vA .int h2 a6 x1 fun y7 =>
  P (.inl (some (.int y7))) h2))
set_option maxHeartbeats 4000000 in
theorem A_X1_tellingAt {l : Launch} {G : aG} {d mc ms : Nat} {P : aR → aH → Prop} {x0 : Nat} {x1 : Int32} {h : aH} (hl : l.stackTraces = false) (hv : V_X1_tellingAt_0 l G d mc ms P x0 x1 h) : aC l G mX1_tellingAt (wsN mX1_tellingAt) d mc ms [.ref x0, .int x1] h P := by
  refine aC_ofF (M := mX1_tellingAt) rfl pX1_tellingAt (Nat.le_of_ble_eq_true rfl) hl ?_
  refine aw_eqv (lv2 := [(0, .ref x0), (1, .int x1)]) rfl rfl rfl rfl ?_
  unfold V_X1_tellingAt_0 at hv
  refine aw_aload_n 0 (x := x0) dX1_tellingAt_0 rfl rfl ?_
  refine aw_iload_n 1 dX1_tellingAt_1 rfl rfl ?_
  obtain ⟨⟨fs, he⟩, hv⟩ := hv
  obtain ⟨d2, mc2, ms2, Q, hM, hd9, hc9, hs9, hv, hx⟩ := hv
  refine aw_callV (rest := []) hM he rfl rfl nX1_checkEdge q1368 q1370 qs40 q119 q1371 dX1_tellingAt_2 rfl hd9 (by decide) (Nat.le_of_ble_eq_true rfl) hc9 hs9 ?_ ?_
  rotate_left
  · exact fun E h2 q => aX_out (hx E h2 q) rfl hc9 hs9
  intro v9 h2 hq
  have hv := hv v9 h2 hq
  obtain ⟨rfl, hv⟩ := hv
  refine aw_eqv (pc2 := 5) (st2 := []) rfl rfl rfl rfl ?_
  revert hv hc9 hs9; generalize 0 + mc2 = c3; generalize 0 + ms2 = s4; intro hc9 hs9 hv
  refine aw_aload_n 0 (x := x0) dX1_tellingAt_5 rfl rfl ?_
  obtain ⟨fs, a5, he, hx, hv⟩ := hv
  refine aw_get (v := .ref a5) he rfl in_X1 1 (by decide) q435 (Or.inl rfl) hx dX1_tellingAt_6 ?_
  obtain ⟨fs, a6, he, hx, hv⟩ := hv
  refine aw_getN (v := .ref a6) he rfl in_X3 0 (by decide) q322 (Or.inl rfl) hx dX1_tellingAt_9 ?_
  refine aw_iload_n 1 dX1_tellingAt_12 rfl rfl ?_
  obtain ⟨n9, f9, he, hin, hv⟩ := hv
  refine aw_iald he hin dX1_tellingAt_13 ?_
  revert hv; generalize f9 (x1).toNatClampNeg = y7; intro hv
  exact aw_iret rfl dX1_tellingAt_14 hv hc9 hs9
def V_X1_isSecond_0 (l : Launch) (G : aG) (d mc ms : Nat) (P : aR → aH → Prop) (x0 : Nat) (x1 : Int32) (h : aH) : Prop :=
  vIs h x0 1 (
  vC l G mX1_checkEdge (wsN mX1_checkEdge) d mc ms [.ref x0, .int x1] h 0 0 (xP P) (kV fun h2 c3 s4 => 
  vR h2 x0 1 1 fun a5 =>
  vI h2 a5 3 6 fun y6 =>
  vC l G mX1_has (wsN mX1_has) d mc ms [.int y6, .int x1] h2 c3 s4 (xP P) (kI fun y7 h8 c9 s10 => 
  vB y7 ∧ P (.inl (some (.int y7))) h8)))
set_option maxHeartbeats 4000000 in
theorem A_X1_isSecond {l : Launch} {G : aG} {d mc ms : Nat} {P : aR → aH → Prop} {x0 : Nat} {x1 : Int32} {h : aH} (hl : l.stackTraces = false) (hv : V_X1_isSecond_0 l G d mc ms P x0 x1 h) : aC l G mX1_isSecond (wsN mX1_isSecond) d mc ms [.ref x0, .int x1] h P := by
  refine aC_ofF (M := mX1_isSecond) rfl pX1_isSecond (Nat.le_of_ble_eq_true rfl) hl ?_
  refine aw_eqv (lv2 := [(0, .ref x0), (1, .int x1)]) rfl rfl rfl rfl ?_
  unfold V_X1_isSecond_0 at hv
  refine aw_aload_n 0 (x := x0) dX1_isSecond_0 rfl rfl ?_
  refine aw_iload_n 1 dX1_isSecond_1 rfl rfl ?_
  obtain ⟨⟨fs, he⟩, hv⟩ := hv
  obtain ⟨d2, mc2, ms2, Q, hM, hd9, hc9, hs9, hv, hx⟩ := hv
  refine aw_callV (rest := []) hM he rfl rfl nX1_checkEdge q1368 q1370 qs40 q119 q1371 dX1_isSecond_2 rfl hd9 (by decide) (Nat.le_of_ble_eq_true rfl) hc9 hs9 ?_ ?_
  rotate_left
  · exact fun E h2 q => aX_out (hx E h2 q) rfl hc9 hs9
  intro v9 h2 hq
  have hv := hv v9 h2 hq
  obtain ⟨rfl, hv⟩ := hv
  refine aw_eqv (pc2 := 5) (st2 := []) rfl rfl rfl rfl ?_
  revert hv hc9 hs9; generalize 0 + mc2 = c3; generalize 0 + ms2 = s4; intro hc9 hs9 hv
  refine aw_aload_n 0 (x := x0) dX1_isSecond_5 rfl rfl ?_
  obtain ⟨fs, a5, he, hx, hv⟩ := hv
  refine aw_get (v := .ref a5) he rfl in_X1 1 (by decide) q435 (Or.inl rfl) hx dX1_isSecond_6 ?_
  obtain ⟨fs, y6, he, hx, hv⟩ := hv
  refine aw_getN (v := .int y6) he rfl in_X3 6 (by decide) q337 (Or.inl rfl) hx dX1_isSecond_9 ?_
  refine aw_iload_n 1 dX1_isSecond_12 rfl rfl ?_
  obtain ⟨d2, mc2, ms2, Q, hM, hd9, hc9, hs9, hv, hx⟩ := hv
  refine aw_callS (rest := []) hM nX1_has q582 q298 q119 q299 dX1_isSecond_13 rfl hd9 (by decide) (Nat.le_of_ble_eq_true rfl) hc9 hs9 ?_ ?_
  rotate_left
  · exact fun E h2 q => aX_out (hx E h2 q) rfl hc9 hs9
  intro v9 h8 hq
  have hv := hv v9 h8 hq
  obtain ⟨y7, rfl, hv⟩ := hv
  refine aw_eqv (pc2 := 16) (st2 := [.int y7]) rfl rfl rfl rfl ?_
  revert hv hc9 hs9; generalize c3 + mc2 = c9; generalize s4 + ms2 = s10; intro hc9 hs9 hv
  obtain ⟨z11, hv⟩ := hv
  exact aw_zret rfl z11.nar dX1_isSecond_16 hv hc9 hs9
def V_X1_checkLine_0 (l : Launch) (G : aG) (d mc ms : Nat) (P : aR → aH → Prop) (x0 : Nat) (x1 : Int32) (h : aH) : Prop :=
  vR h x0 1 1 fun a1 =>
  vIs h a1 3 (
  vC l G mX3_lineCount (wsN mX3_lineCount) d mc ms [.ref a1] h 0 0 (xP P) (kI fun y2 h3 c4 s5 => 
  vC l G mX1_isIn (wsN mX1_isIn) d mc ms [.int x1, .int 0, .int (y2 - (1 : Int32))] h3 c4 s5 (xP P) (kI fun y6 h7 c8 s9 => 
  vC l G mX1_checkIndex (wsN mX1_checkIndex) d mc ms [.int y6] h7 c8 s9 (xP P) (kV fun h11 c12 s13 => 
  P (.inl none) h11))))
set_option maxHeartbeats 4000000 in
theorem A_X1_checkLine {l : Launch} {G : aG} {d mc ms : Nat} {P : aR → aH → Prop} {x0 : Nat} {x1 : Int32} {h : aH} (hl : l.stackTraces = false) (hv : V_X1_checkLine_0 l G d mc ms P x0 x1 h) : aC l G mX1_checkLine (wsN mX1_checkLine) d mc ms [.ref x0, .int x1] h P := by
  refine aC_ofF (M := mX1_checkLine) rfl pX1_checkLine (Nat.le_of_ble_eq_true rfl) hl ?_
  refine aw_eqv (lv2 := [(0, .ref x0), (1, .int x1)]) rfl rfl rfl rfl ?_
  unfold V_X1_checkLine_0 at hv
  refine aw_iload_n 1 dX1_checkLine_0 rfl rfl ?_
  refine aw_iconst (v := 0) dX1_checkLine_1 (by decide) ?_
  refine aw_aload_n 0 (x := x0) dX1_checkLine_2 rfl rfl ?_
  obtain ⟨fs, a1, he, hx, hv⟩ := hv
  refine aw_get (v := .ref a1) he rfl in_X1 1 (by decide) q435 (Or.inl rfl) hx dX1_checkLine_3 ?_
  obtain ⟨⟨fs, he⟩, hv⟩ := hv
  obtain ⟨d2, mc2, ms2, Q, hM, hd9, hc9, hs9, hv, hx⟩ := hv
  refine aw_callV (rest := [.int 0, .int x1]) hM he rfl rfl nX3_lineCount q595 q314 q315 q121 q316 dX1_checkLine_6 rfl hd9 (by decide) (Nat.le_of_ble_eq_true rfl) hc9 hs9 ?_ ?_
  rotate_left
  · exact fun E h2 q => aX_out (hx E h2 q) rfl hc9 hs9
  intro v9 h3 hq
  have hv := hv v9 h3 hq
  obtain ⟨y2, rfl, hv⟩ := hv
  refine aw_eqv (pc2 := 9) (st2 := [.int y2, .int 0, .int x1]) rfl rfl rfl rfl ?_
  revert hv hc9 hs9; generalize 0 + mc2 = c4; generalize 0 + ms2 = s5; intro hc9 hs9 hv
  refine aw_iconst (v := 1) dX1_checkLine_9 (by decide) ?_
  refine aw_isub dX1_checkLine_10 ?_
  obtain ⟨d2, mc2, ms2, Q, hM, hd9, hc9, hs9, hv, hx⟩ := hv
  refine aw_callS (rest := []) hM nX1_isIn q1338 q1239 q119 q1240 dX1_checkLine_11 rfl hd9 (by decide) (Nat.le_of_ble_eq_true rfl) hc9 hs9 ?_ ?_
  rotate_left
  · exact fun E h2 q => aX_out (hx E h2 q) rfl hc9 hs9
  intro v9 h7 hq
  have hv := hv v9 h7 hq
  obtain ⟨y6, rfl, hv⟩ := hv
  refine aw_eqv (pc2 := 14) (st2 := [.int y6]) rfl rfl rfl rfl ?_
  revert hv hc9 hs9; generalize c4 + mc2 = c8; generalize s5 + ms2 = s9; intro hc9 hs9 hv
  obtain ⟨d2, mc2, ms2, Q, hM, hd9, hc9, hs9, hv, hx⟩ := hv
  refine aw_callS (rest := []) hM nX1_checkIndex q1372 q1373 q119 q1374 dX1_checkLine_14 rfl hd9 (by decide) (Nat.le_of_ble_eq_true rfl) hc9 hs9 ?_ ?_
  rotate_left
  · exact fun E h2 q => aX_out (hx E h2 q) rfl hc9 hs9
  intro v9 h11 hq
  have hv := hv v9 h11 hq
  obtain ⟨rfl, hv⟩ := hv
  refine aw_eqv (pc2 := 17) (st2 := []) rfl rfl rfl rfl ?_
  revert hv hc9 hs9; generalize c8 + mc2 = c12; generalize s9 + ms2 = s13; intro hc9 hs9 hv
  exact aw_vret rfl dX1_checkLine_17 hv hc9 hs9
def V_X1_checkPlace_0 (l : Launch) (G : aG) (d mc ms : Nat) (P : aR → aH → Prop) (x0 : Nat) (x1 : Int32) (x2 : Int32) (h : aH) : Prop :=
  vIs h x0 1 (
  vC l G mX1_checkLine (wsN mX1_checkLine) d mc ms [.ref x0, .int x1] h 0 0 (xP P) (kV fun h2 c3 s4 => 
  vR h2 x0 1 1 fun a5 =>
  vI h2 a5 3 4 fun y6 =>
  vC l G mX1_isIn (wsN mX1_isIn) d mc ms [.int x2, .int 0, .int (y6 - (1 : Int32))] h2 c3 s4 (xP P) (kI fun y7 h8 c9 s10 => 
  vC l G mX1_checkIndex (wsN mX1_checkIndex) d mc ms [.int y7] h8 c9 s10 (xP P) (kV fun h12 c13 s14 => 
  P (.inl none) h12))))
set_option maxHeartbeats 4000000 in
theorem A_X1_checkPlace {l : Launch} {G : aG} {d mc ms : Nat} {P : aR → aH → Prop} {x0 : Nat} {x1 : Int32} {x2 : Int32} {h : aH} (hl : l.stackTraces = false) (hv : V_X1_checkPlace_0 l G d mc ms P x0 x1 x2 h) : aC l G mX1_checkPlace (wsN mX1_checkPlace) d mc ms [.ref x0, .int x1, .int x2] h P := by
  refine aC_ofF (M := mX1_checkPlace) rfl pX1_checkPlace (Nat.le_of_ble_eq_true rfl) hl ?_
  refine aw_eqv (lv2 := [(0, .ref x0), (1, .int x1), (2, .int x2)]) rfl rfl rfl rfl ?_
  unfold V_X1_checkPlace_0 at hv
  refine aw_aload_n 0 (x := x0) dX1_checkPlace_0 rfl rfl ?_
  refine aw_iload_n 1 dX1_checkPlace_1 rfl rfl ?_
  obtain ⟨⟨fs, he⟩, hv⟩ := hv
  obtain ⟨d2, mc2, ms2, Q, hM, hd9, hc9, hs9, hv, hx⟩ := hv
  refine aw_callV (rest := []) hM he rfl rfl nX1_checkLine q1464 q1466 qs45 q119 q1467 dX1_checkPlace_2 rfl hd9 (by decide) (Nat.le_of_ble_eq_true rfl) hc9 hs9 ?_ ?_
  rotate_left
  · exact fun E h2 q => aX_out (hx E h2 q) rfl hc9 hs9
  intro v9 h2 hq
  have hv := hv v9 h2 hq
  obtain ⟨rfl, hv⟩ := hv
  refine aw_eqv (pc2 := 5) (st2 := []) rfl rfl rfl rfl ?_
  revert hv hc9 hs9; generalize 0 + mc2 = c3; generalize 0 + ms2 = s4; intro hc9 hs9 hv
  refine aw_iload_n 2 dX1_checkPlace_5 rfl rfl ?_
  refine aw_iconst (v := 0) dX1_checkPlace_6 (by decide) ?_
  refine aw_aload_n 0 (x := x0) dX1_checkPlace_7 rfl rfl ?_
  obtain ⟨fs, a5, he, hx, hv⟩ := hv
  refine aw_get (v := .ref a5) he rfl in_X1 1 (by decide) q435 (Or.inl rfl) hx dX1_checkPlace_8 ?_
  obtain ⟨fs, y6, he, hx, hv⟩ := hv
  refine aw_getN (v := .int y6) he rfl in_X3 4 (by decide) q332 (Or.inl rfl) hx dX1_checkPlace_11 ?_
  refine aw_iconst (v := 1) dX1_checkPlace_14 (by decide) ?_
  refine aw_isub dX1_checkPlace_15 ?_
  obtain ⟨d2, mc2, ms2, Q, hM, hd9, hc9, hs9, hv, hx⟩ := hv
  refine aw_callS (rest := []) hM nX1_isIn q1338 q1239 q119 q1240 dX1_checkPlace_16 rfl hd9 (by decide) (Nat.le_of_ble_eq_true rfl) hc9 hs9 ?_ ?_
  rotate_left
  · exact fun E h2 q => aX_out (hx E h2 q) rfl hc9 hs9
  intro v9 h8 hq
  have hv := hv v9 h8 hq
  obtain ⟨y7, rfl, hv⟩ := hv
  refine aw_eqv (pc2 := 19) (st2 := [.int y7]) rfl rfl rfl rfl ?_
  revert hv hc9 hs9; generalize c3 + mc2 = c9; generalize s4 + ms2 = s10; intro hc9 hs9 hv
  obtain ⟨d2, mc2, ms2, Q, hM, hd9, hc9, hs9, hv, hx⟩ := hv
  refine aw_callS (rest := []) hM nX1_checkIndex q1372 q1373 q119 q1374 dX1_checkPlace_19 rfl hd9 (by decide) (Nat.le_of_ble_eq_true rfl) hc9 hs9 ?_ ?_
  rotate_left
  · exact fun E h2 q => aX_out (hx E h2 q) rfl hc9 hs9
  intro v9 h12 hq
  have hv := hv v9 h12 hq
  obtain ⟨rfl, hv⟩ := hv
  refine aw_eqv (pc2 := 22) (st2 := []) rfl rfl rfl rfl ?_
  revert hv hc9 hs9; generalize c9 + mc2 = c13; generalize s10 + ms2 = s14; intro hc9 hs9 hv
  exact aw_vret rfl dX1_checkPlace_22 hv hc9 hs9
def V_X1_cellOf_0 (l : Launch) (G : aG) (d mc ms : Nat) (P : aR → aH → Prop) (x0 : Nat) (x1 : Int32) (x2 : Int32) (h : aH) : Prop :=
  vIs h x0 1 (
  vC l G mX1_checkPlace (wsN mX1_checkPlace) d mc ms [.ref x0, .int x1, .int x2] h 0 0 (xP P) (kV fun h2 c3 s4 => 
  vR h2 x0 1 1 fun a5 =>
  vR h2 a5 3 1 fun a6 =>
  vAR (.array .int) h2 a6 x1 fun a7 =>
  vA .int h2 a7 x2 fun y8 =>
  P (.inl (some (.int y8))) h2))
set_option maxHeartbeats 4000000 in
theorem A_X1_cellOf {l : Launch} {G : aG} {d mc ms : Nat} {P : aR → aH → Prop} {x0 : Nat} {x1 : Int32} {x2 : Int32} {h : aH} (hl : l.stackTraces = false) (hv : V_X1_cellOf_0 l G d mc ms P x0 x1 x2 h) : aC l G mX1_cellOf (wsN mX1_cellOf) d mc ms [.ref x0, .int x1, .int x2] h P := by
  refine aC_ofF (M := mX1_cellOf) rfl pX1_cellOf (Nat.le_of_ble_eq_true rfl) hl ?_
  refine aw_eqv (lv2 := [(0, .ref x0), (1, .int x1), (2, .int x2)]) rfl rfl rfl rfl ?_
  unfold V_X1_cellOf_0 at hv
  refine aw_aload_n 0 (x := x0) dX1_cellOf_0 rfl rfl ?_
  refine aw_iload_n 1 dX1_cellOf_1 rfl rfl ?_
  refine aw_iload_n 2 dX1_cellOf_2 rfl rfl ?_
  obtain ⟨⟨fs, he⟩, hv⟩ := hv
  obtain ⟨d2, mc2, ms2, Q, hM, hd9, hc9, hs9, hv, hx⟩ := hv
  refine aw_callV (rest := []) hM he rfl rfl nX1_checkPlace q1460 q1462 qs44 q119 q1463 dX1_cellOf_3 rfl hd9 (by decide) (Nat.le_of_ble_eq_true rfl) hc9 hs9 ?_ ?_
  rotate_left
  · exact fun E h2 q => aX_out (hx E h2 q) rfl hc9 hs9
  intro v9 h2 hq
  have hv := hv v9 h2 hq
  obtain ⟨rfl, hv⟩ := hv
  refine aw_eqv (pc2 := 6) (st2 := []) rfl rfl rfl rfl ?_
  revert hv hc9 hs9; generalize 0 + mc2 = c3; generalize 0 + ms2 = s4; intro hc9 hs9 hv
  refine aw_aload_n 0 (x := x0) dX1_cellOf_6 rfl rfl ?_
  obtain ⟨fs, a5, he, hx, hv⟩ := hv
  refine aw_get (v := .ref a5) he rfl in_X1 1 (by decide) q435 (Or.inl rfl) hx dX1_cellOf_7 ?_
  obtain ⟨fs, a6, he, hx, hv⟩ := hv
  refine aw_getN (v := .ref a6) he rfl in_X3 1 (by decide) q325 (Or.inl rfl) hx dX1_cellOf_10 ?_
  refine aw_iload_n 1 dX1_cellOf_13 rfl rfl ?_
  obtain ⟨n9, f9, a7, he, hin, hx, hv⟩ := hv
  refine aw_aald 7 rfl rfl he hin dX1_cellOf_14 ?_
  rw [hx]
  refine aw_eqv (st2 := [.ref a7]) rfl rfl rfl rfl ?_
  refine aw_iload_n 2 dX1_cellOf_15 rfl rfl ?_
  obtain ⟨n9, f9, he, hin, hv⟩ := hv
  refine aw_iald he hin dX1_cellOf_16 ?_
  revert hv; generalize f9 (x2).toNatClampNeg = y8; intro hv
  exact aw_iret rfl dX1_cellOf_17 hv hc9 hs9
def V_X1_checkCell_0 (l : Launch) (G : aG) (d mc ms : Nat) (P : aR → aH → Prop) (x0 : Nat) (x1 : Int32) (h : aH) : Prop :=
  vR h x0 1 1 fun a1 =>
  vIs h a1 3 (
  vC l G mX3_cellCount (wsN mX3_cellCount) d mc ms [.ref a1] h 0 0 (xP P) (kI fun y2 h3 c4 s5 => 
  vC l G mX1_isIn (wsN mX1_isIn) d mc ms [.int x1, .int 0, .int (y2 - (1 : Int32))] h3 c4 s5 (xP P) (kI fun y6 h7 c8 s9 => 
  vC l G mX1_checkIndex (wsN mX1_checkIndex) d mc ms [.int y6] h7 c8 s9 (xP P) (kV fun h11 c12 s13 => 
  P (.inl none) h11))))
set_option maxHeartbeats 4000000 in
theorem A_X1_checkCell {l : Launch} {G : aG} {d mc ms : Nat} {P : aR → aH → Prop} {x0 : Nat} {x1 : Int32} {h : aH} (hl : l.stackTraces = false) (hv : V_X1_checkCell_0 l G d mc ms P x0 x1 h) : aC l G mX1_checkCell (wsN mX1_checkCell) d mc ms [.ref x0, .int x1] h P := by
  refine aC_ofF (M := mX1_checkCell) rfl pX1_checkCell (Nat.le_of_ble_eq_true rfl) hl ?_
  refine aw_eqv (lv2 := [(0, .ref x0), (1, .int x1)]) rfl rfl rfl rfl ?_
  unfold V_X1_checkCell_0 at hv
  refine aw_iload_n 1 dX1_checkCell_0 rfl rfl ?_
  refine aw_iconst (v := 0) dX1_checkCell_1 (by decide) ?_
  refine aw_aload_n 0 (x := x0) dX1_checkCell_2 rfl rfl ?_
  obtain ⟨fs, a1, he, hx, hv⟩ := hv
  refine aw_get (v := .ref a1) he rfl in_X1 1 (by decide) q435 (Or.inl rfl) hx dX1_checkCell_3 ?_
  obtain ⟨⟨fs, he⟩, hv⟩ := hv
  obtain ⟨d2, mc2, ms2, Q, hM, hd9, hc9, hs9, hv, hx⟩ := hv
  refine aw_callV (rest := [.int 0, .int x1]) hM he rfl rfl nX3_cellCount q572 q369 q370 q121 q371 dX1_checkCell_6 rfl hd9 (by decide) (Nat.le_of_ble_eq_true rfl) hc9 hs9 ?_ ?_
  rotate_left
  · exact fun E h2 q => aX_out (hx E h2 q) rfl hc9 hs9
  intro v9 h3 hq
  have hv := hv v9 h3 hq
  obtain ⟨y2, rfl, hv⟩ := hv
  refine aw_eqv (pc2 := 9) (st2 := [.int y2, .int 0, .int x1]) rfl rfl rfl rfl ?_
  revert hv hc9 hs9; generalize 0 + mc2 = c4; generalize 0 + ms2 = s5; intro hc9 hs9 hv
  refine aw_iconst (v := 1) dX1_checkCell_9 (by decide) ?_
  refine aw_isub dX1_checkCell_10 ?_
  obtain ⟨d2, mc2, ms2, Q, hM, hd9, hc9, hs9, hv, hx⟩ := hv
  refine aw_callS (rest := []) hM nX1_isIn q1338 q1239 q119 q1240 dX1_checkCell_11 rfl hd9 (by decide) (Nat.le_of_ble_eq_true rfl) hc9 hs9 ?_ ?_
  rotate_left
  · exact fun E h2 q => aX_out (hx E h2 q) rfl hc9 hs9
  intro v9 h7 hq
  have hv := hv v9 h7 hq
  obtain ⟨y6, rfl, hv⟩ := hv
  refine aw_eqv (pc2 := 14) (st2 := [.int y6]) rfl rfl rfl rfl ?_
  revert hv hc9 hs9; generalize c4 + mc2 = c8; generalize s5 + ms2 = s9; intro hc9 hs9 hv
  obtain ⟨d2, mc2, ms2, Q, hM, hd9, hc9, hs9, hv, hx⟩ := hv
  refine aw_callS (rest := []) hM nX1_checkIndex q1372 q1373 q119 q1374 dX1_checkCell_14 rfl hd9 (by decide) (Nat.le_of_ble_eq_true rfl) hc9 hs9 ?_ ?_
  rotate_left
  · exact fun E h2 q => aX_out (hx E h2 q) rfl hc9 hs9
  intro v9 h11 hq
  have hv := hv v9 h11 hq
  obtain ⟨rfl, hv⟩ := hv
  refine aw_eqv (pc2 := 17) (st2 := []) rfl rfl rfl rfl ?_
  revert hv hc9 hs9; generalize c8 + mc2 = c12; generalize s9 + ms2 = s13; intro hc9 hs9 hv
  exact aw_vret rfl dX1_checkCell_17 hv hc9 hs9
def V_X1_checkThing_0 (l : Launch) (G : aG) (d mc ms : Nat) (P : aR → aH → Prop) (x0 : Nat) (x1 : Int32) (h : aH) : Prop :=
  vR h x0 1 1 fun a1 =>
  vI h a1 3 5 fun y2 =>
  vC l G mX1_isIn (wsN mX1_isIn) d mc ms [.int x1, .int 0, .int y2] h 0 0 (xP P) (kI fun y3 h4 c5 s6 => 
  vC l G mX1_checkArgument (wsN mX1_checkArgument) d mc ms [.int y3] h4 c5 s6 (xP P) (kV fun h8 c9 s10 => 
  P (.inl none) h8))
set_option maxHeartbeats 4000000 in
theorem A_X1_checkThing {l : Launch} {G : aG} {d mc ms : Nat} {P : aR → aH → Prop} {x0 : Nat} {x1 : Int32} {h : aH} (hl : l.stackTraces = false) (hv : V_X1_checkThing_0 l G d mc ms P x0 x1 h) : aC l G mX1_checkThing (wsN mX1_checkThing) d mc ms [.ref x0, .int x1] h P := by
  refine aC_ofF (M := mX1_checkThing) rfl pX1_checkThing (Nat.le_of_ble_eq_true rfl) hl ?_
  refine aw_eqv (lv2 := [(0, .ref x0), (1, .int x1)]) rfl rfl rfl rfl ?_
  unfold V_X1_checkThing_0 at hv
  refine aw_iload_n 1 dX1_checkThing_0 rfl rfl ?_
  refine aw_iconst (v := 0) dX1_checkThing_1 (by decide) ?_
  refine aw_aload_n 0 (x := x0) dX1_checkThing_2 rfl rfl ?_
  obtain ⟨fs, a1, he, hx, hv⟩ := hv
  refine aw_get (v := .ref a1) he rfl in_X1 1 (by decide) q435 (Or.inl rfl) hx dX1_checkThing_3 ?_
  obtain ⟨fs, y2, he, hx, hv⟩ := hv
  refine aw_getN (v := .int y2) he rfl in_X3 5 (by decide) q335 (Or.inl rfl) hx dX1_checkThing_6 ?_
  obtain ⟨d2, mc2, ms2, Q, hM, hd9, hc9, hs9, hv, hx⟩ := hv
  refine aw_callS (rest := []) hM nX1_isIn q1338 q1239 q119 q1240 dX1_checkThing_9 rfl hd9 (by decide) (Nat.le_of_ble_eq_true rfl) hc9 hs9 ?_ ?_
  rotate_left
  · exact fun E h2 q => aX_out (hx E h2 q) rfl hc9 hs9
  intro v9 h4 hq
  have hv := hv v9 h4 hq
  obtain ⟨y3, rfl, hv⟩ := hv
  refine aw_eqv (pc2 := 12) (st2 := [.int y3]) rfl rfl rfl rfl ?_
  revert hv hc9 hs9; generalize 0 + mc2 = c5; generalize 0 + ms2 = s6; intro hc9 hs9 hv
  obtain ⟨d2, mc2, ms2, Q, hM, hd9, hc9, hs9, hv, hx⟩ := hv
  refine aw_callS (rest := []) hM nX1_checkArgument q1339 q1340 q119 q1341 dX1_checkThing_12 rfl hd9 (by decide) (Nat.le_of_ble_eq_true rfl) hc9 hs9 ?_ ?_
  rotate_left
  · exact fun E h2 q => aX_out (hx E h2 q) rfl hc9 hs9
  intro v9 h8 hq
  have hv := hv v9 h8 hq
  obtain ⟨rfl, hv⟩ := hv
  refine aw_eqv (pc2 := 15) (st2 := []) rfl rfl rfl rfl ?_
  revert hv hc9 hs9; generalize c5 + mc2 = c9; generalize s6 + ms2 = s10; intro hc9 hs9 hv
  exact aw_vret rfl dX1_checkThing_15 hv hc9 hs9
def V_X1_settle_0 (l : Launch) (G : aG) (d mc ms : Nat) (P : aR → aH → Prop) (x0 : Nat) (x1 : Int32) (x2 : Int32) (x3 : Int32) (h : aH) : Prop :=
  vIs h x0 1 (
  vC l G mX1_checkCell (wsN mX1_checkCell) d mc ms [.ref x0, .int x1] h 0 0 (xP P) (kV fun h2 c3 s4 => 
  vIs h2 x0 1 (
  vC l G mX1_checkThing (wsN mX1_checkThing) d mc ms [.ref x0, .int x2] h2 c3 s4 (xP P) (kV fun h6 c7 s8 => 
  vIs h6 x0 1 (
  vC l G mX1_recordIf (wsN mX1_recordIf) d mc ms [.ref x0, .int x3] h6 c7 s8 (xP P) (kV fun h10 c11 s12 => 
  vR h10 x0 1 2 fun a13 =>
  vR h10 a13 5 1 fun a14 =>
  vA .int h10 a14 x1 fun y15 =>
  vR h10 x0 1 2 fun a16 =>
  vR h10 a16 5 1 fun a17 =>
  vSt .int h10 a17 x1 ((1 : Int32) <<< (x2 &&& 31)) fun h18 =>
  P (.inl (some (.int y15))) h18))))))
set_option maxHeartbeats 4000000 in
theorem A_X1_settle {l : Launch} {G : aG} {d mc ms : Nat} {P : aR → aH → Prop} {x0 : Nat} {x1 : Int32} {x2 : Int32} {x3 : Int32} {h : aH} (hl : l.stackTraces = false) (hv : V_X1_settle_0 l G d mc ms P x0 x1 x2 x3 h) : aC l G mX1_settle (wsN mX1_settle) d mc ms [.ref x0, .int x1, .int x2, .int x3] h P := by
  refine aC_ofF (M := mX1_settle) rfl pX1_settle (Nat.le_of_ble_eq_true rfl) hl ?_
  refine aw_eqv (lv2 := [(0, .ref x0), (1, .int x1), (2, .int x2), (3, .int x3)]) rfl rfl rfl rfl ?_
  unfold V_X1_settle_0 at hv
  refine aw_aload_n 0 (x := x0) dX1_settle_0 rfl rfl ?_
  refine aw_iload_n 1 dX1_settle_1 rfl rfl ?_
  obtain ⟨⟨fs, he⟩, hv⟩ := hv
  obtain ⟨d2, mc2, ms2, Q, hM, hd9, hc9, hs9, hv, hx⟩ := hv
  refine aw_callV (rest := []) hM he rfl rfl nX1_checkCell q1479 q1481 qs47 q119 q1482 dX1_settle_2 rfl hd9 (by decide) (Nat.le_of_ble_eq_true rfl) hc9 hs9 ?_ ?_
  rotate_left
  · exact fun E h2 q => aX_out (hx E h2 q) rfl hc9 hs9
  intro v9 h2 hq
  have hv := hv v9 h2 hq
  obtain ⟨rfl, hv⟩ := hv
  refine aw_eqv (pc2 := 5) (st2 := []) rfl rfl rfl rfl ?_
  revert hv hc9 hs9; generalize 0 + mc2 = c3; generalize 0 + ms2 = s4; intro hc9 hs9 hv
  refine aw_aload_n 0 (x := x0) dX1_settle_5 rfl rfl ?_
  refine aw_iload_n 2 dX1_settle_6 rfl rfl ?_
  obtain ⟨⟨fs, he⟩, hv⟩ := hv
  obtain ⟨d2, mc2, ms2, Q, hM, hd9, hc9, hs9, hv, hx⟩ := hv
  refine aw_callV (rest := []) hM he rfl rfl nX1_checkThing q1483 q1485 qs48 q119 q1486 dX1_settle_7 rfl hd9 (by decide) (Nat.le_of_ble_eq_true rfl) hc9 hs9 ?_ ?_
  rotate_left
  · exact fun E h2 q => aX_out (hx E h2 q) rfl hc9 hs9
  intro v9 h6 hq
  have hv := hv v9 h6 hq
  obtain ⟨rfl, hv⟩ := hv
  refine aw_eqv (pc2 := 10) (st2 := []) rfl rfl rfl rfl ?_
  revert hv hc9 hs9; generalize c3 + mc2 = c7; generalize s4 + ms2 = s8; intro hc9 hs9 hv
  refine aw_aload_n 0 (x := x0) dX1_settle_10 rfl rfl ?_
  refine aw_iload_n 3 dX1_settle_11 rfl rfl ?_
  obtain ⟨⟨fs, he⟩, hv⟩ := hv
  obtain ⟨d2, mc2, ms2, Q, hM, hd9, hc9, hs9, hv, hx⟩ := hv
  refine aw_callV (rest := []) hM he rfl rfl nX1_recordIf q464 q466 qs6 q119 q467 dX1_settle_12 rfl hd9 (by decide) (Nat.le_of_ble_eq_true rfl) hc9 hs9 ?_ ?_
  rotate_left
  · exact fun E h2 q => aX_out (hx E h2 q) rfl hc9 hs9
  intro v9 h10 hq
  have hv := hv v9 h10 hq
  obtain ⟨rfl, hv⟩ := hv
  refine aw_eqv (pc2 := 15) (st2 := []) rfl rfl rfl rfl ?_
  revert hv hc9 hs9; generalize c7 + mc2 = c11; generalize s8 + ms2 = s12; intro hc9 hs9 hv
  refine aw_aload_n 0 (x := x0) dX1_settle_15 rfl rfl ?_
  obtain ⟨fs, a13, he, hx, hv⟩ := hv
  refine aw_get (v := .ref a13) he rfl in_X1 2 (by decide) q436 (Or.inl rfl) hx dX1_settle_16 ?_
  obtain ⟨fs, a14, he, hx, hv⟩ := hv
  refine aw_getN (v := .ref a14) he rfl in_X5 1 (by decide) q378 (Or.inl rfl) hx dX1_settle_19 ?_
  refine aw_iload_n 1 dX1_settle_22 rfl rfl ?_
  obtain ⟨n9, f9, he, hin, hv⟩ := hv
  refine aw_iald he hin dX1_settle_23 ?_
  revert hv; generalize f9 (x1).toNatClampNeg = y15; intro hv
  refine aw_istore (lv' := [(4, .int y15), (0, .ref x0), (1, .int x1), (2, .int x2), (3, .int x3)]) dX1_settle_24 (Nat.le_of_ble_eq_true rfl) rfl ?_
  refine aw_aload_n 1 (x := x0) dX1_settle_26 rfl rfl ?_
  obtain ⟨fs, a16, he, hx, hv⟩ := hv
  refine aw_get (v := .ref a16) he rfl in_X1 2 (by decide) q436 (Or.inl rfl) hx dX1_settle_27 ?_
  obtain ⟨fs, a17, he, hx, hv⟩ := hv
  refine aw_getN (v := .ref a17) he rfl in_X5 1 (by decide) q378 (Or.inl rfl) hx dX1_settle_30 ?_
  refine aw_iload_n 2 dX1_settle_33 rfl rfl ?_
  refine aw_iconst (v := 1) dX1_settle_34 (by decide) ?_
  refine aw_iload_n 3 dX1_settle_35 rfl rfl ?_
  refine aw_ishl dX1_settle_36 ?_
  obtain ⟨n9, f9, he, hin, hv⟩ := hv
  refine aw_iast he hin rfl dX1_settle_37 ?_
  revert hv; generalize aUp h10 a17 (aInts .int n9 (upd f9 (x1).toNatClampNeg ((1 : Int32) <<< (x2 &&& 31)))) = h18; intro hv
  refine aw_iload 0 dX1_settle_38 rfl ?_
  exact aw_iret rfl dX1_settle_40 hv hc9 hs9
def V_X1_put_0 (l : Launch) (G : aG) (d mc ms : Nat) (P : aR → aH → Prop) (x0 : Nat) (x1 : Int32) (x2 : Int32) (h : aH) : Prop :=
  vIs h x0 1 (
  vC l G mX1_settle (wsN mX1_settle) d mc ms [.ref x0, .int x1, .int x2, .int 1] h 0 0 (xP P) (kI fun y1 h2 c3 s4 => 
  P (.inl (some (.int y1))) h2))
set_option maxHeartbeats 4000000 in
theorem A_X1_put {l : Launch} {G : aG} {d mc ms : Nat} {P : aR → aH → Prop} {x0 : Nat} {x1 : Int32} {x2 : Int32} {h : aH} (hl : l.stackTraces = false) (hv : V_X1_put_0 l G d mc ms P x0 x1 x2 h) : aC l G mX1_put (wsN mX1_put) d mc ms [.ref x0, .int x1, .int x2] h P := by
  refine aC_ofF (M := mX1_put) rfl pX1_put (Nat.le_of_ble_eq_true rfl) hl ?_
  refine aw_eqv (lv2 := [(0, .ref x0), (1, .int x1), (2, .int x2)]) rfl rfl rfl rfl ?_
  unfold V_X1_put_0 at hv
  refine aw_aload_n 0 (x := x0) dX1_put_0 rfl rfl ?_
  refine aw_iload_n 1 dX1_put_1 rfl rfl ?_
  refine aw_iload_n 2 dX1_put_2 rfl rfl ?_
  refine aw_iconst (v := 1) dX1_put_3 (by decide) ?_
  obtain ⟨⟨fs, he⟩, hv⟩ := hv
  obtain ⟨d2, mc2, ms2, Q, hM, hd9, hc9, hs9, hv, hx⟩ := hv
  refine aw_callV (rest := []) hM he rfl rfl nX1_settle q1475 q1477 qs46 q119 q1478 dX1_put_4 rfl hd9 (by decide) (Nat.le_of_ble_eq_true rfl) hc9 hs9 ?_ ?_
  rotate_left
  · exact fun E h2 q => aX_out (hx E h2 q) rfl hc9 hs9
  intro v9 h2 hq
  have hv := hv v9 h2 hq
  obtain ⟨y1, rfl, hv⟩ := hv
  refine aw_eqv (pc2 := 7) (st2 := [.int y1]) rfl rfl rfl rfl ?_
  revert hv hc9 hs9; generalize 0 + mc2 = c3; generalize 0 + ms2 = s4; intro hc9 hs9 hv
  exact aw_iret rfl dX1_put_7 hv hc9 hs9
def V_X1_strike_0 (l : Launch) (G : aG) (d mc ms : Nat) (P : aR → aH → Prop) (x0 : Nat) (x1 : Int32) (x2 : Int32) (x3 : Int32) (h : aH) : Prop :=
  vIs h x0 1 (
  vC l G mX1_checkCell (wsN mX1_checkCell) d mc ms [.ref x0, .int x1] h 0 0 (xP P) (kV fun h2 c3 s4 => 
  vIs h2 x0 1 (
  vC l G mX1_checkThing (wsN mX1_checkThing) d mc ms [.ref x0, .int x2] h2 c3 s4 (xP P) (kV fun h6 c7 s8 => 
  vR h6 x0 1 2 fun a9 =>
  vR h6 a9 5 1 fun a10 =>
  vA .int h6 a10 x1 fun y11 =>
  vC l G mX1_has (wsN mX1_has) d mc ms [.int y11, .int x2] h6 c7 s8 (xP P) (kI fun y12 h13 c14 s15 => 
  vC l G mX1_checkState (wsN mX1_checkState) d mc ms [.int y12] h13 c14 s15 (xP P) (kV fun h17 c18 s19 => 
  vIs h17 x0 1 (
  vC l G mX1_recordIf (wsN mX1_recordIf) d mc ms [.ref x0, .int x3] h17 c18 s19 (xP P) (kV fun h21 c22 s23 => 
  vR h21 x0 1 2 fun a24 =>
  vR h21 a24 5 1 fun a25 =>
  vA .int h21 a25 x1 fun y26 =>
  vSt .int h21 a25 x1 (y26 &&& (((1 : Int32) <<< (x2 &&& 31)) ^^^ ((-1) : Int32))) fun h27 =>
  vR h27 x0 1 2 fun a28 =>
  vR h27 a28 5 1 fun a29 =>
  vA .int h27 a29 x1 fun y30 =>
  P (.inl (some (.int y30))) h27))))))))
set_option maxHeartbeats 4000000 in
theorem A_X1_strike {l : Launch} {G : aG} {d mc ms : Nat} {P : aR → aH → Prop} {x0 : Nat} {x1 : Int32} {x2 : Int32} {x3 : Int32} {h : aH} (hl : l.stackTraces = false) (hv : V_X1_strike_0 l G d mc ms P x0 x1 x2 x3 h) : aC l G mX1_strike (wsN mX1_strike) d mc ms [.ref x0, .int x1, .int x2, .int x3] h P := by
  refine aC_ofF (M := mX1_strike) rfl pX1_strike (Nat.le_of_ble_eq_true rfl) hl ?_
  refine aw_eqv (lv2 := [(0, .ref x0), (1, .int x1), (2, .int x2), (3, .int x3)]) rfl rfl rfl rfl ?_
  unfold V_X1_strike_0 at hv
  refine aw_aload_n 0 (x := x0) dX1_strike_0 rfl rfl ?_
  refine aw_iload_n 1 dX1_strike_1 rfl rfl ?_
  obtain ⟨⟨fs, he⟩, hv⟩ := hv
  obtain ⟨d2, mc2, ms2, Q, hM, hd9, hc9, hs9, hv, hx⟩ := hv
  refine aw_callV (rest := []) hM he rfl rfl nX1_checkCell q1479 q1481 qs47 q119 q1482 dX1_strike_2 rfl hd9 (by decide) (Nat.le_of_ble_eq_true rfl) hc9 hs9 ?_ ?_
  rotate_left
  · exact fun E h2 q => aX_out (hx E h2 q) rfl hc9 hs9
  intro v9 h2 hq
  have hv := hv v9 h2 hq
  obtain ⟨rfl, hv⟩ := hv
  refine aw_eqv (pc2 := 5) (st2 := []) rfl rfl rfl rfl ?_
  revert hv hc9 hs9; generalize 0 + mc2 = c3; generalize 0 + ms2 = s4; intro hc9 hs9 hv
  refine aw_aload_n 0 (x := x0) dX1_strike_5 rfl rfl ?_
  refine aw_iload_n 2 dX1_strike_6 rfl rfl ?_
  obtain ⟨⟨fs, he⟩, hv⟩ := hv
  obtain ⟨d2, mc2, ms2, Q, hM, hd9, hc9, hs9, hv, hx⟩ := hv
  refine aw_callV (rest := []) hM he rfl rfl nX1_checkThing q1483 q1485 qs48 q119 q1486 dX1_strike_7 rfl hd9 (by decide) (Nat.le_of_ble_eq_true rfl) hc9 hs9 ?_ ?_
  rotate_left
  · exact fun E h2 q => aX_out (hx E h2 q) rfl hc9 hs9
  intro v9 h6 hq
  have hv := hv v9 h6 hq
  obtain ⟨rfl, hv⟩ := hv
  refine aw_eqv (pc2 := 10) (st2 := []) rfl rfl rfl rfl ?_
  revert hv hc9 hs9; generalize c3 + mc2 = c7; generalize s4 + ms2 = s8; intro hc9 hs9 hv
  refine aw_aload_n 0 (x := x0) dX1_strike_10 rfl rfl ?_
  obtain ⟨fs, a9, he, hx, hv⟩ := hv
  refine aw_get (v := .ref a9) he rfl in_X1 2 (by decide) q436 (Or.inl rfl) hx dX1_strike_11 ?_
  obtain ⟨fs, a10, he, hx, hv⟩ := hv
  refine aw_getN (v := .ref a10) he rfl in_X5 1 (by decide) q378 (Or.inl rfl) hx dX1_strike_14 ?_
  refine aw_iload_n 1 dX1_strike_17 rfl rfl ?_
  obtain ⟨n9, f9, he, hin, hv⟩ := hv
  refine aw_iald he hin dX1_strike_18 ?_
  revert hv; generalize f9 (x1).toNatClampNeg = y11; intro hv
  refine aw_iload_n 2 dX1_strike_19 rfl rfl ?_
  obtain ⟨d2, mc2, ms2, Q, hM, hd9, hc9, hs9, hv, hx⟩ := hv
  refine aw_callS (rest := []) hM nX1_has q582 q298 q119 q299 dX1_strike_20 rfl hd9 (by decide) (Nat.le_of_ble_eq_true rfl) hc9 hs9 ?_ ?_
  rotate_left
  · exact fun E h2 q => aX_out (hx E h2 q) rfl hc9 hs9
  intro v9 h13 hq
  have hv := hv v9 h13 hq
  obtain ⟨y12, rfl, hv⟩ := hv
  refine aw_eqv (pc2 := 23) (st2 := [.int y12]) rfl rfl rfl rfl ?_
  revert hv hc9 hs9; generalize c7 + mc2 = c14; generalize s8 + ms2 = s15; intro hc9 hs9 hv
  obtain ⟨d2, mc2, ms2, Q, hM, hd9, hc9, hs9, hv, hx⟩ := hv
  refine aw_callS (rest := []) hM nX1_checkState q1406 q1407 q119 q1408 dX1_strike_23 rfl hd9 (by decide) (Nat.le_of_ble_eq_true rfl) hc9 hs9 ?_ ?_
  rotate_left
  · exact fun E h2 q => aX_out (hx E h2 q) rfl hc9 hs9
  intro v9 h17 hq
  have hv := hv v9 h17 hq
  obtain ⟨rfl, hv⟩ := hv
  refine aw_eqv (pc2 := 26) (st2 := []) rfl rfl rfl rfl ?_
  revert hv hc9 hs9; generalize c14 + mc2 = c18; generalize s15 + ms2 = s19; intro hc9 hs9 hv
  refine aw_aload_n 0 (x := x0) dX1_strike_26 rfl rfl ?_
  refine aw_iload_n 3 dX1_strike_27 rfl rfl ?_
  obtain ⟨⟨fs, he⟩, hv⟩ := hv
  obtain ⟨d2, mc2, ms2, Q, hM, hd9, hc9, hs9, hv, hx⟩ := hv
  refine aw_callV (rest := []) hM he rfl rfl nX1_recordIf q464 q466 qs6 q119 q467 dX1_strike_28 rfl hd9 (by decide) (Nat.le_of_ble_eq_true rfl) hc9 hs9 ?_ ?_
  rotate_left
  · exact fun E h2 q => aX_out (hx E h2 q) rfl hc9 hs9
  intro v9 h21 hq
  have hv := hv v9 h21 hq
  obtain ⟨rfl, hv⟩ := hv
  refine aw_eqv (pc2 := 31) (st2 := []) rfl rfl rfl rfl ?_
  revert hv hc9 hs9; generalize c18 + mc2 = c22; generalize s19 + ms2 = s23; intro hc9 hs9 hv
  refine aw_aload_n 0 (x := x0) dX1_strike_31 rfl rfl ?_
  obtain ⟨fs, a24, he, hx, hv⟩ := hv
  refine aw_get (v := .ref a24) he rfl in_X1 2 (by decide) q436 (Or.inl rfl) hx dX1_strike_32 ?_
  obtain ⟨fs, a25, he, hx, hv⟩ := hv
  refine aw_getN (v := .ref a25) he rfl in_X5 1 (by decide) q378 (Or.inl rfl) hx dX1_strike_35 ?_
  refine aw_iload_n 1 dX1_strike_38 rfl rfl ?_
  refine aw_dup2_11 dX1_strike_39 rfl rfl ?_
  obtain ⟨n9, f9, he, hin, hv⟩ := hv
  refine aw_iald he hin dX1_strike_40 ?_
  revert hv; generalize f9 (x1).toNatClampNeg = y26; intro hv
  refine aw_iconst (v := 1) dX1_strike_41 (by decide) ?_
  refine aw_iload_n 2 dX1_strike_42 rfl rfl ?_
  refine aw_ishl dX1_strike_43 ?_
  refine aw_iconst (v := (-1)) dX1_strike_44 (by decide) ?_
  refine aw_ixor dX1_strike_45 ?_
  refine aw_iand dX1_strike_46 ?_
  obtain ⟨n9, f9, he, hin, hv⟩ := hv
  refine aw_iast he hin rfl dX1_strike_47 ?_
  revert hv; generalize aUp h21 a25 (aInts .int n9 (upd f9 (x1).toNatClampNeg (y26 &&& (((1 : Int32) <<< (x2 &&& 31)) ^^^ ((-1) : Int32))))) = h27; intro hv
  refine aw_aload_n 0 (x := x0) dX1_strike_48 rfl rfl ?_
  obtain ⟨fs, a28, he, hx, hv⟩ := hv
  refine aw_get (v := .ref a28) he rfl in_X1 2 (by decide) q436 (Or.inl rfl) hx dX1_strike_49 ?_
  obtain ⟨fs, a29, he, hx, hv⟩ := hv
  refine aw_getN (v := .ref a29) he rfl in_X5 1 (by decide) q378 (Or.inl rfl) hx dX1_strike_52 ?_
  refine aw_iload_n 1 dX1_strike_55 rfl rfl ?_
  obtain ⟨n9, f9, he, hin, hv⟩ := hv
  refine aw_iald he hin dX1_strike_56 ?_
  revert hv; generalize f9 (x1).toNatClampNeg = y30; intro hv
  exact aw_iret rfl dX1_strike_57 hv hc9 hs9
def V_X1_crossOut_0 (l : Launch) (G : aG) (d mc ms : Nat) (P : aR → aH → Prop) (x0 : Nat) (x1 : Int32) (x2 : Int32) (h : aH) : Prop :=
  vIs h x0 1 (
  vC l G mX1_strike (wsN mX1_strike) d mc ms [.ref x0, .int x1, .int x2, .int 1] h 0 0 (xP P) (kI fun y1 h2 c3 s4 => 
  P (.inl (some (.int y1))) h2))
set_option maxHeartbeats 4000000 in
theorem A_X1_crossOut {l : Launch} {G : aG} {d mc ms : Nat} {P : aR → aH → Prop} {x0 : Nat} {x1 : Int32} {x2 : Int32} {h : aH} (hl : l.stackTraces = false) (hv : V_X1_crossOut_0 l G d mc ms P x0 x1 x2 h) : aC l G mX1_crossOut (wsN mX1_crossOut) d mc ms [.ref x0, .int x1, .int x2] h P := by
  refine aC_ofF (M := mX1_crossOut) rfl pX1_crossOut (Nat.le_of_ble_eq_true rfl) hl ?_
  refine aw_eqv (lv2 := [(0, .ref x0), (1, .int x1), (2, .int x2)]) rfl rfl rfl rfl ?_
  unfold V_X1_crossOut_0 at hv
  refine aw_aload_n 0 (x := x0) dX1_crossOut_0 rfl rfl ?_
  refine aw_iload_n 1 dX1_crossOut_1 rfl rfl ?_
  refine aw_iload_n 2 dX1_crossOut_2 rfl rfl ?_
  refine aw_iconst (v := 1) dX1_crossOut_3 (by decide) ?_
  obtain ⟨⟨fs, he⟩, hv⟩ := hv
  obtain ⟨d2, mc2, ms2, Q, hM, hd9, hc9, hs9, hv, hx⟩ := hv
  refine aw_callV (rest := []) hM he rfl rfl nX1_strike q1494 q1496 qs49 q119 q1497 dX1_crossOut_4 rfl hd9 (by decide) (Nat.le_of_ble_eq_true rfl) hc9 hs9 ?_ ?_
  rotate_left
  · exact fun E h2 q => aX_out (hx E h2 q) rfl hc9 hs9
  intro v9 h2 hq
  have hv := hv v9 h2 hq
  obtain ⟨y1, rfl, hv⟩ := hv
  refine aw_eqv (pc2 := 7) (st2 := [.int y1]) rfl rfl rfl rfl ?_
  revert hv hc9 hs9; generalize 0 + mc2 = c3; generalize 0 + ms2 = s4; intro hc9 hs9 hv
  exact aw_iret rfl dX1_crossOut_7 hv hc9 hs9
def V_X1_thingsOf_0 (l : Launch) (G : aG) (d mc ms : Nat) (P : aR → aH → Prop) (x0 : Nat) (x1 : Int32) (h : aH) : Prop :=
  vIs h x0 1 (
  vC l G mX1_checkCell (wsN mX1_checkCell) d mc ms [.ref x0, .int x1] h 0 0 (xP P) (kV fun h2 c3 s4 => 
  vR h2 x0 1 2 fun a5 =>
  vR h2 a5 5 1 fun a6 =>
  vA .int h2 a6 x1 fun y7 =>
  P (.inl (some (.int y7))) h2))
set_option maxHeartbeats 4000000 in
theorem A_X1_thingsOf {l : Launch} {G : aG} {d mc ms : Nat} {P : aR → aH → Prop} {x0 : Nat} {x1 : Int32} {h : aH} (hl : l.stackTraces = false) (hv : V_X1_thingsOf_0 l G d mc ms P x0 x1 h) : aC l G mX1_thingsOf (wsN mX1_thingsOf) d mc ms [.ref x0, .int x1] h P := by
  refine aC_ofF (M := mX1_thingsOf) rfl pX1_thingsOf (Nat.le_of_ble_eq_true rfl) hl ?_
  refine aw_eqv (lv2 := [(0, .ref x0), (1, .int x1)]) rfl rfl rfl rfl ?_
  unfold V_X1_thingsOf_0 at hv
  refine aw_aload_n 0 (x := x0) dX1_thingsOf_0 rfl rfl ?_
  refine aw_iload_n 1 dX1_thingsOf_1 rfl rfl ?_
  obtain ⟨⟨fs, he⟩, hv⟩ := hv
  obtain ⟨d2, mc2, ms2, Q, hM, hd9, hc9, hs9, hv, hx⟩ := hv
  refine aw_callV (rest := []) hM he rfl rfl nX1_checkCell q1479 q1481 qs47 q119 q1482 dX1_thingsOf_2 rfl hd9 (by decide) (Nat.le_of_ble_eq_true rfl) hc9 hs9 ?_ ?_
  rotate_left
  · exact fun E h2 q => aX_out (hx E h2 q) rfl hc9 hs9
  intro v9 h2 hq
  have hv := hv v9 h2 hq
  obtain ⟨rfl, hv⟩ := hv
  refine aw_eqv (pc2 := 5) (st2 := []) rfl rfl rfl rfl ?_
  revert hv hc9 hs9; generalize 0 + mc2 = c3; generalize 0 + ms2 = s4; intro hc9 hs9 hv
  refine aw_aload_n 0 (x := x0) dX1_thingsOf_5 rfl rfl ?_
  obtain ⟨fs, a5, he, hx, hv⟩ := hv
  refine aw_get (v := .ref a5) he rfl in_X1 2 (by decide) q436 (Or.inl rfl) hx dX1_thingsOf_6 ?_
  obtain ⟨fs, a6, he, hx, hv⟩ := hv
  refine aw_getN (v := .ref a6) he rfl in_X5 1 (by decide) q378 (Or.inl rfl) hx dX1_thingsOf_9 ?_
  refine aw_iload_n 1 dX1_thingsOf_12 rfl rfl ?_
  obtain ⟨n9, f9, he, hin, hv⟩ := hv
  refine aw_iald he hin dX1_thingsOf_13 ?_
  revert hv; generalize f9 (x1).toNatClampNeg = y7; intro hv
  exact aw_iret rfl dX1_thingsOf_14 hv hc9 hs9
def T_X1_cellsWith_10 (l : Launch) (G : aG) (d mc ms : Nat) (P : aR → aH → Prop) (x0 : Nat) (x1 : Int32) (x2 : Int64) (x4 : Int32) (h : aH) (c s : Nat) : Prop := c ≤ mc → s ≤ ms → AW l G mX1_cellsWith d mc ms P 10 [(0, .ref x0), (1, .int x1), (2, .long x2), (4, .int x4)] [] h c s
def V_X1_cellsWith_10 (l : Launch) (G : aG) (d mc ms : Nat) (P : aR → aH → Prop) (x0 : Nat) (x1 : Int32) (x2 : Int64) (x4 : Int32) (h : aH) (c s : Nat) : Prop :=
  vR h x0 1 1 fun a1 =>
  vIs h a1 3 (
  vC l G mX3_cellCount (wsN mX3_cellCount) d mc ms [.ref a1] h c s (xP P) (kI fun y2 h3 c4 s5 => 
  (y2 ≤ x4 → 
    P (.inl (some (.long x2))) h3
    ) ∧ (¬ y2 ≤ x4 → 
    vR h3 x0 1 2 fun a7 =>
    vR h3 a7 5 1 fun a8 =>
    vA .int h3 a8 x4 fun y9 =>
    vC l G mX1_has (wsN mX1_has) d mc ms [.int y9, .int x1] h3 c4 s5 (xP P) (kI fun y10 h11 c12 s13 => 
    ∀ v15 : Int64, v15 = (x2 ||| (if y10 = 0 then (0 : Int64) else (1 : Int64) <<< (x4.toInt64 &&& 63))) →
    T_X1_cellsWith_10 l G d mc ms P x0 x1 v15 (x4 + 1) h11 c12 s13)
    )))
set_option maxHeartbeats 4000000 in
theorem A_X1_cellsWith_10 {l : Launch} {G : aG} {d mc ms : Nat} {P : aR → aH → Prop} {x0 : Nat} {x1 : Int32} {x2 : Int64} {x4 : Int32} {h : aH} {c s : Nat} (hl : l.stackTraces = false) (hv : V_X1_cellsWith_10 l G d mc ms P x0 x1 x2 x4 h c s) : T_X1_cellsWith_10 l G d mc ms P x0 x1 x2 x4 h c s := by
  intro hc hs
  unfold V_X1_cellsWith_10 at hv
  refine aw_iload 3 dX1_cellsWith_10 rfl ?_
  refine aw_aload_n 0 (x := x0) dX1_cellsWith_12 rfl rfl ?_
  obtain ⟨fs, a1, he, hx, hv⟩ := hv
  refine aw_get (v := .ref a1) he rfl in_X1 1 (by decide) q435 (Or.inl rfl) hx dX1_cellsWith_13 ?_
  obtain ⟨⟨fs, he⟩, hv⟩ := hv
  obtain ⟨d2, mc2, ms2, Q, hM, hd9, hc9, hs9, hv, hx⟩ := hv
  refine aw_callV (rest := [.int x4]) hM he rfl rfl nX3_cellCount q572 q369 q370 q121 q371 dX1_cellsWith_16 rfl hd9 (by decide) (Nat.le_of_ble_eq_true rfl) hc9 hs9 ?_ ?_
  rotate_left
  · exact fun E h2 q => aX_out (hx E h2 q) rfl hc9 hs9
  intro v9 h3 hq
  have hv := hv v9 h3 hq
  obtain ⟨y2, rfl, hv⟩ := hv
  refine aw_eqv (pc2 := 19) (st2 := [.int y2, .int x4]) rfl rfl rfl rfl ?_
  revert hv hc9 hs9; generalize c + mc2 = c4; generalize s + ms2 = s5; intro hc9 hs9 hv
  refine aw_icmp_ge 56 dX1_cellsWith_19 (by decide) (fun c6 => ?_) (fun c6 => ?_)
  · have hv := hv.1 c6
    refine aw_lload_n 2 dX1_cellsWith_56 rfl rfl ?_
    exact aw_lret rfl dX1_cellsWith_57 hv hc9 hs9
  · have hv := hv.2 c6
    refine aw_lload_n 2 dX1_cellsWith_22 rfl rfl ?_
    refine aw_aload_n 0 (x := x0) dX1_cellsWith_23 rfl rfl ?_
    obtain ⟨fs, a7, he, hx, hv⟩ := hv
    refine aw_get (v := .ref a7) he rfl in_X1 2 (by decide) q436 (Or.inl rfl) hx dX1_cellsWith_24 ?_
    obtain ⟨fs, a8, he, hx, hv⟩ := hv
    refine aw_getN (v := .ref a8) he rfl in_X5 1 (by decide) q378 (Or.inl rfl) hx dX1_cellsWith_27 ?_
    refine aw_iload 3 dX1_cellsWith_30 rfl ?_
    obtain ⟨n9, f9, he, hin, hv⟩ := hv
    refine aw_iald he hin dX1_cellsWith_32 ?_
    revert hv; generalize f9 (x4).toNatClampNeg = y9; intro hv
    refine aw_iload_n 1 dX1_cellsWith_33 rfl rfl ?_
    obtain ⟨d2, mc2, ms2, Q, hM, hd9, hc9, hs9, hv, hx⟩ := hv
    refine aw_callS (rest := [.long x2]) hM nX1_has q582 q298 q119 q299 dX1_cellsWith_34 rfl hd9 (by decide) (Nat.le_of_ble_eq_true rfl) hc9 hs9 ?_ ?_
    rotate_left
    · exact fun E h2 q => aX_out (hx E h2 q) rfl hc9 hs9
    intro v9 h11 hq
    have hv := hv v9 h11 hq
    obtain ⟨y10, rfl, hv⟩ := hv
    refine aw_eqv (pc2 := 37) (st2 := [.int y10, .long x2]) rfl rfl rfl rfl ?_
    revert hv hc9 hs9; generalize c4 + mc2 = c12; generalize s5 + ms2 = s13; intro hc9 hs9 hv
    have J9 : AW l G mX1_cellsWith d mc ms P 48 [(0, .ref x0), (1, .int x1), (2, .long x2), (4, .int x4)] [.long (if y10 = 0 then (0 : Int64) else (1 : Int64) <<< (x4.toInt64 &&& 63)), .long x2] h11 c12 s13 := by
      refine aw_lor dX1_cellsWith_48 ?_
      refine aw_topl (fun v15 ev15 => ?_)
      have hv := hv v15 ev15
      refine aw_lstore_n (lv' := [(2, .long v15), (0, .ref x0), (1, .int x1), (4, .int x4)]) dX1_cellsWith_49 rfl (Nat.le_of_ble_eq_true rfl) rfl ?_
      refine aw_iinc 3 (v := x4 + 1) (lv' := [(4, .int (x4 + 1)), (2, .long v15), (0, .ref x0), (1, .int x1)]) dX1_cellsWith_50 rfl rfl (Nat.le_of_ble_eq_true rfl) rfl ?_
      refine aw_goto 10 dX1_cellsWith_53 (by decide) ?_
      refine aw_sub [2, 3, 1, 0] rfl ?_
      exact hv hc9 hs9
    refine aw_if_eq 47 dX1_cellsWith_37 (by decide) (fun c14 => ?_) (fun c14 => ?_)
    · have J9 := aw_ifTL c14 J9
      refine aw_lconst (v := 0) dX1_cellsWith_47 (by decide) ?_
      exact J9
    · have J9 := aw_ifFL c14 J9
      refine aw_lconst (v := 1) dX1_cellsWith_40 (by decide) ?_
      refine aw_iload 3 dX1_cellsWith_41 rfl ?_
      refine aw_lshl dX1_cellsWith_43 ?_
      refine aw_goto 48 dX1_cellsWith_44 (by decide) ?_
      exact J9
def V_X1_cellsWith_0 (l : Launch) (G : aG) (d mc ms : Nat) (P : aR → aH → Prop) (x0 : Nat) (x1 : Int32) (h : aH) : Prop :=
  vIs h x0 1 (
  vC l G mX1_checkThing (wsN mX1_checkThing) d mc ms [.ref x0, .int x1] h 0 0 (xP P) (kV fun h17 c18 s19 => 
  T_X1_cellsWith_10 l G d mc ms P x0 x1 0 0 h17 c18 s19))
set_option maxHeartbeats 4000000 in
theorem A_X1_cellsWith {l : Launch} {G : aG} {d mc ms : Nat} {P : aR → aH → Prop} {x0 : Nat} {x1 : Int32} {h : aH} (hl : l.stackTraces = false) (hv : V_X1_cellsWith_0 l G d mc ms P x0 x1 h) : aC l G mX1_cellsWith (wsN mX1_cellsWith) d mc ms [.ref x0, .int x1] h P := by
  refine aC_ofF (M := mX1_cellsWith) rfl pX1_cellsWith (Nat.le_of_ble_eq_true rfl) hl ?_
  refine aw_eqv (lv2 := [(0, .ref x0), (1, .int x1)]) rfl rfl rfl rfl ?_
  unfold V_X1_cellsWith_0 at hv
  refine aw_aload_n 0 (x := x0) dX1_cellsWith_0 rfl rfl ?_
  refine aw_iload_n 1 dX1_cellsWith_1 rfl rfl ?_
  obtain ⟨⟨fs, he⟩, hv⟩ := hv
  obtain ⟨d2, mc2, ms2, Q, hM, hd9, hc9, hs9, hv, hx⟩ := hv
  refine aw_callV (rest := []) hM he rfl rfl nX1_checkThing q1483 q1485 qs48 q119 q1486 dX1_cellsWith_2 rfl hd9 (by decide) (Nat.le_of_ble_eq_true rfl) hc9 hs9 ?_ ?_
  rotate_left
  · exact fun E h2 q => aX_out (hx E h2 q) rfl hc9 hs9
  intro v9 h17 hq
  have hv := hv v9 h17 hq
  obtain ⟨rfl, hv⟩ := hv
  refine aw_eqv (pc2 := 5) (st2 := []) rfl rfl rfl rfl ?_
  revert hv hc9 hs9; generalize 0 + mc2 = c18; generalize 0 + ms2 = s19; intro hc9 hs9 hv
  refine aw_lconst (v := 0) dX1_cellsWith_5 (by decide) ?_
  refine aw_lstore_n (lv' := [(2, .long 0), (0, .ref x0), (1, .int x1)]) dX1_cellsWith_6 rfl (Nat.le_of_ble_eq_true rfl) rfl ?_
  refine aw_iconst (v := 0) dX1_cellsWith_7 (by decide) ?_
  refine aw_istore (lv' := [(4, .int 0), (2, .long 0), (0, .ref x0), (1, .int x1)]) dX1_cellsWith_8 (Nat.le_of_ble_eq_true rfl) rfl ?_
  refine aw_sub [2, 3, 1, 0] rfl ?_
  exact hv hc9 hs9
def V_X1_arrangements_0 (l : Launch) (G : aG) (d mc ms : Nat) (P : aR → aH → Prop) (x0 : Nat) (x1 : Int32) (h : aH) : Prop :=
  vIs h x0 1 (
  vC l G mX1_checkLine (wsN mX1_checkLine) d mc ms [.ref x0, .int x1] h 0 0 (xP P) (kV fun h2 c3 s4 => 
  vR h2 x0 1 2 fun a5 =>
  vIs h2 a5 5 (
  vC l G mX5_arrangements (wsN mX5_arrangements) d mc ms [.ref a5, .int x1] h2 c3 s4 (xP P) (kI fun y6 h7 c8 s9 => 
  P (.inl (some (.int y6))) h7))))
set_option maxHeartbeats 4000000 in
theorem A_X1_arrangements {l : Launch} {G : aG} {d mc ms : Nat} {P : aR → aH → Prop} {x0 : Nat} {x1 : Int32} {h : aH} (hl : l.stackTraces = false) (hv : V_X1_arrangements_0 l G d mc ms P x0 x1 h) : aC l G mX1_arrangements (wsN mX1_arrangements) d mc ms [.ref x0, .int x1] h P := by
  refine aC_ofF (M := mX1_arrangements) rfl pX1_arrangements (Nat.le_of_ble_eq_true rfl) hl ?_
  refine aw_eqv (lv2 := [(0, .ref x0), (1, .int x1)]) rfl rfl rfl rfl ?_
  unfold V_X1_arrangements_0 at hv
  refine aw_aload_n 0 (x := x0) dX1_arrangements_0 rfl rfl ?_
  refine aw_iload_n 1 dX1_arrangements_1 rfl rfl ?_
  obtain ⟨⟨fs, he⟩, hv⟩ := hv
  obtain ⟨d2, mc2, ms2, Q, hM, hd9, hc9, hs9, hv, hx⟩ := hv
  refine aw_callV (rest := []) hM he rfl rfl nX1_checkLine q1464 q1466 qs45 q119 q1467 dX1_arrangements_2 rfl hd9 (by decide) (Nat.le_of_ble_eq_true rfl) hc9 hs9 ?_ ?_
  rotate_left
  · exact fun E h2 q => aX_out (hx E h2 q) rfl hc9 hs9
  intro v9 h2 hq
  have hv := hv v9 h2 hq
  obtain ⟨rfl, hv⟩ := hv
  refine aw_eqv (pc2 := 5) (st2 := []) rfl rfl rfl rfl ?_
  revert hv hc9 hs9; generalize 0 + mc2 = c3; generalize 0 + ms2 = s4; intro hc9 hs9 hv
  refine aw_aload_n 0 (x := x0) dX1_arrangements_5 rfl rfl ?_
  obtain ⟨fs, a5, he, hx, hv⟩ := hv
  refine aw_get (v := .ref a5) he rfl in_X1 2 (by decide) q436 (Or.inl rfl) hx dX1_arrangements_6 ?_
  refine aw_iload_n 1 dX1_arrangements_9 rfl rfl ?_
  obtain ⟨⟨fs, he⟩, hv⟩ := hv
  obtain ⟨d2, mc2, ms2, Q, hM, hd9, hc9, hs9, hv, hx⟩ := hv
  refine aw_callV (rest := []) hM he rfl rfl nX5_arrangements q1519 q1520 q1521 q132 q1522 dX1_arrangements_10 rfl hd9 (by decide) (Nat.le_of_ble_eq_true rfl) hc9 hs9 ?_ ?_
  rotate_left
  · exact fun E h2 q => aX_out (hx E h2 q) rfl hc9 hs9
  intro v9 h7 hq
  have hv := hv v9 h7 hq
  obtain ⟨y6, rfl, hv⟩ := hv
  refine aw_eqv (pc2 := 13) (st2 := [.int y6]) rfl rfl rfl rfl ?_
  revert hv hc9 hs9; generalize c3 + mc2 = c8; generalize s4 + ms2 = s9; intro hc9 hs9 hv
  exact aw_iret rfl dX1_arrangements_13 hv hc9 hs9
def V_X1_arrangementsByCells_0 (l : Launch) (G : aG) (d mc ms : Nat) (P : aR → aH → Prop) (x0 : Nat) (x1 : Int32) (h : aH) : Prop :=
  vIs h x0 1 (
  vC l G mX1_checkLine (wsN mX1_checkLine) d mc ms [.ref x0, .int x1] h 0 0 (xP P) (kV fun h2 c3 s4 => 
  vR h2 x0 1 2 fun a5 =>
  vR h2 x0 1 1 fun a6 =>
  vI h2 a6 3 4 fun y7 =>
  vNewA .int h2 y7 mc ms c3 s4 fun a8 h9 c10 s11 => h2 a8 = none →
  vIs h9 a5 5 (
  vC l G mX5_countFrom (wsN mX5_countFrom) d mc ms [.ref a5, .int x1, .int 0, .int 0, .ref a8] h9 c10 s11 (xP P) (kI fun y13 h14 c15 s16 => 
  P (.inl (some (.int y13))) h14))))
set_option maxHeartbeats 4000000 in
theorem A_X1_arrangementsByCells {l : Launch} {G : aG} {d mc ms : Nat} {P : aR → aH → Prop} {x0 : Nat} {x1 : Int32} {h : aH} (hl : l.stackTraces = false) (hv : V_X1_arrangementsByCells_0 l G d mc ms P x0 x1 h) : aC l G mX1_arrangementsByCells (wsN mX1_arrangementsByCells) d mc ms [.ref x0, .int x1] h P := by
  refine aC_ofF (M := mX1_arrangementsByCells) rfl pX1_arrangementsByCells (Nat.le_of_ble_eq_true rfl) hl ?_
  refine aw_eqv (lv2 := [(0, .ref x0), (1, .int x1)]) rfl rfl rfl rfl ?_
  unfold V_X1_arrangementsByCells_0 at hv
  refine aw_aload_n 0 (x := x0) dX1_arrangementsByCells_0 rfl rfl ?_
  refine aw_iload_n 1 dX1_arrangementsByCells_1 rfl rfl ?_
  obtain ⟨⟨fs, he⟩, hv⟩ := hv
  obtain ⟨d2, mc2, ms2, Q, hM, hd9, hc9, hs9, hv, hx⟩ := hv
  refine aw_callV (rest := []) hM he rfl rfl nX1_checkLine q1464 q1466 qs45 q119 q1467 dX1_arrangementsByCells_2 rfl hd9 (by decide) (Nat.le_of_ble_eq_true rfl) hc9 hs9 ?_ ?_
  rotate_left
  · exact fun E h2 q => aX_out (hx E h2 q) rfl hc9 hs9
  intro v9 h2 hq
  have hv := hv v9 h2 hq
  obtain ⟨rfl, hv⟩ := hv
  refine aw_eqv (pc2 := 5) (st2 := []) rfl rfl rfl rfl ?_
  revert hv hc9 hs9; generalize 0 + mc2 = c3; generalize 0 + ms2 = s4; intro hc9 hs9 hv
  refine aw_aload_n 0 (x := x0) dX1_arrangementsByCells_5 rfl rfl ?_
  obtain ⟨fs, a5, he, hx, hv⟩ := hv
  refine aw_get (v := .ref a5) he rfl in_X1 2 (by decide) q436 (Or.inl rfl) hx dX1_arrangementsByCells_6 ?_
  refine aw_iload_n 1 dX1_arrangementsByCells_9 rfl rfl ?_
  refine aw_iconst (v := 0) dX1_arrangementsByCells_10 (by decide) ?_
  refine aw_iconst (v := 0) dX1_arrangementsByCells_11 (by decide) ?_
  refine aw_aload_n 0 (x := x0) dX1_arrangementsByCells_12 rfl rfl ?_
  obtain ⟨fs, a6, he, hx, hv⟩ := hv
  refine aw_get (v := .ref a6) he rfl in_X1 1 (by decide) q435 (Or.inl rfl) hx dX1_arrangementsByCells_13 ?_
  obtain ⟨fs, y7, he, hx, hv⟩ := hv
  refine aw_getN (v := .int y7) he rfl in_X3 4 (by decide) q332 (Or.inl rfl) hx dX1_arrangementsByCells_16 ?_
  obtain ⟨N9, hn9, hN9, hb9, hc9, hs9, hv⟩ := hv
  refine aw_newa (atype := .int) (ty := .int) (a0 := (N9, .inl fun _ => 0)) rfl 0 rfl q215 (fun _ => rfl) hn9 hN9 (by show _ * 4 ≤ _; omega) (fun _ _ h9 => h9) hc9 hs9 dX1_arrangementsByCells_19 (fun a8 g12 => ?_)
  have hv := hv a8 g12 g12
  refine aw_eqv (pc2 := 21) (st2 := [.ref a8, .int 0, .int 0, .int x1, .ref a5]) rfl rfl rfl rfl ?_
  revert hv hc9 hs9; generalize aUp h2 a8 (.inl (.int, (N9, .inl fun _ => 0))) = h9; generalize c3 + 1 = c10; generalize s4 + N9 = s11; intro hc9 hs9 hv
  obtain ⟨⟨fs, he⟩, hv⟩ := hv
  obtain ⟨d2, mc2, ms2, Q, hM, hd9, hc9, hs9, hv, hx⟩ := hv
  refine aw_callV (rest := []) hM he rfl rfl nX5_countFrom q1576 q1577 q1578 q132 q1579 dX1_arrangementsByCells_21 rfl hd9 (by decide) (Nat.le_of_ble_eq_true rfl) hc9 hs9 ?_ ?_
  rotate_left
  · exact fun E h2 q => aX_out (hx E h2 q) rfl hc9 hs9
  intro v9 h14 hq
  have hv := hv v9 h14 hq
  obtain ⟨y13, rfl, hv⟩ := hv
  refine aw_eqv (pc2 := 24) (st2 := [.int y13]) rfl rfl rfl rfl ?_
  revert hv hc9 hs9; generalize c10 + mc2 = c15; generalize s11 + ms2 = s16; intro hc9 hs9 hv
  exact aw_iret rfl dX1_arrangementsByCells_24 hv hc9 hs9
def V_X1_thingsIn_0 (l : Launch) (G : aG) (d mc ms : Nat) (P : aR → aH → Prop) (x0 : Nat) (x1 : Int32) (x2 : Int32) (h : aH) : Prop :=
  vIs h x0 1 (
  vC l G mX1_checkPlace (wsN mX1_checkPlace) d mc ms [.ref x0, .int x1, .int x2] h 0 0 (xP P) (kV fun h2 c3 s4 => 
  vR h2 x0 1 2 fun a5 =>
  vIs h2 a5 5 (
  vC l G mX5_thingsIn (wsN mX5_thingsIn) d mc ms [.ref a5, .int x1, .int x2] h2 c3 s4 (xP P) (kI fun y6 h7 c8 s9 => 
  P (.inl (some (.int y6))) h7))))
set_option maxHeartbeats 4000000 in
theorem A_X1_thingsIn {l : Launch} {G : aG} {d mc ms : Nat} {P : aR → aH → Prop} {x0 : Nat} {x1 : Int32} {x2 : Int32} {h : aH} (hl : l.stackTraces = false) (hv : V_X1_thingsIn_0 l G d mc ms P x0 x1 x2 h) : aC l G mX1_thingsIn (wsN mX1_thingsIn) d mc ms [.ref x0, .int x1, .int x2] h P := by
  refine aC_ofF (M := mX1_thingsIn) rfl pX1_thingsIn (Nat.le_of_ble_eq_true rfl) hl ?_
  refine aw_eqv (lv2 := [(0, .ref x0), (1, .int x1), (2, .int x2)]) rfl rfl rfl rfl ?_
  unfold V_X1_thingsIn_0 at hv
  refine aw_aload_n 0 (x := x0) dX1_thingsIn_0 rfl rfl ?_
  refine aw_iload_n 1 dX1_thingsIn_1 rfl rfl ?_
  refine aw_iload_n 2 dX1_thingsIn_2 rfl rfl ?_
  obtain ⟨⟨fs, he⟩, hv⟩ := hv
  obtain ⟨d2, mc2, ms2, Q, hM, hd9, hc9, hs9, hv, hx⟩ := hv
  refine aw_callV (rest := []) hM he rfl rfl nX1_checkPlace q1460 q1462 qs44 q119 q1463 dX1_thingsIn_3 rfl hd9 (by decide) (Nat.le_of_ble_eq_true rfl) hc9 hs9 ?_ ?_
  rotate_left
  · exact fun E h2 q => aX_out (hx E h2 q) rfl hc9 hs9
  intro v9 h2 hq
  have hv := hv v9 h2 hq
  obtain ⟨rfl, hv⟩ := hv
  refine aw_eqv (pc2 := 6) (st2 := []) rfl rfl rfl rfl ?_
  revert hv hc9 hs9; generalize 0 + mc2 = c3; generalize 0 + ms2 = s4; intro hc9 hs9 hv
  refine aw_aload_n 0 (x := x0) dX1_thingsIn_6 rfl rfl ?_
  obtain ⟨fs, a5, he, hx, hv⟩ := hv
  refine aw_get (v := .ref a5) he rfl in_X1 2 (by decide) q436 (Or.inl rfl) hx dX1_thingsIn_7 ?_
  refine aw_iload_n 1 dX1_thingsIn_10 rfl rfl ?_
  refine aw_iload_n 2 dX1_thingsIn_11 rfl rfl ?_
  obtain ⟨⟨fs, he⟩, hv⟩ := hv
  obtain ⟨d2, mc2, ms2, Q, hM, hd9, hc9, hs9, hv, hx⟩ := hv
  refine aw_callV (rest := []) hM he rfl rfl nX5_thingsIn q1588 q756 q757 q132 q758 dX1_thingsIn_12 rfl hd9 (by decide) (Nat.le_of_ble_eq_true rfl) hc9 hs9 ?_ ?_
  rotate_left
  · exact fun E h2 q => aX_out (hx E h2 q) rfl hc9 hs9
  intro v9 h7 hq
  have hv := hv v9 h7 hq
  obtain ⟨y6, rfl, hv⟩ := hv
  refine aw_eqv (pc2 := 15) (st2 := [.int y6]) rfl rfl rfl rfl ?_
  revert hv hc9 hs9; generalize c3 + mc2 = c8; generalize s4 + ms2 = s9; intro hc9 hs9 hv
  exact aw_iret rfl dX1_thingsIn_15 hv hc9 hs9
def V_X1_seenFrom_0 (l : Launch) (G : aG) (d mc ms : Nat) (P : aR → aH → Prop) (x0 : Nat) (x1 : Int32) (x2 : Int32) (h : aH) : Prop :=
  vIs h x0 1 (
  vC l G mX1_checkEdge (wsN mX1_checkEdge) d mc ms [.ref x0, .int x1] h 0 0 (xP P) (kV fun h2 c3 s4 => 
  vC l G mX1_checkIndex (wsN mX1_checkIndex) d mc ms [.int (if x2 < 0 then (0 : Int32) else 1)] h2 c3 s4 (xP P) (kV fun h7 c8 s9 => 
  vR h7 x0 1 1 fun a10 =>
  vIs h7 a10 3 (
  vC l G mX3_lineAt (wsN mX3_lineAt) d mc ms [.ref a10, .int x1] h7 c8 s9 (xP P) (kI fun y11 h12 c13 s14 => 
  vIs h12 x0 1 (
  vC l G mX1_settledLine (wsN mX1_settledLine) d mc ms [.ref x0, .int y11] h12 c13 s14 (xP P) (kO fun o15 h16 c17 s18 => 
  (o15 = none → 
    P (.inl (some (.int ((-1))))) h16
    ) ∧ (∀ q19, o15 = some q19 → 
    vR h16 x0 1 1 fun a21 =>
    vI h16 a21 3 5 fun y22 =>
    vR h16 x0 1 1 fun a23 =>
    vIs h16 a23 3 (
    vC l G mX3_looksBack (wsN mX3_looksBack) d mc ms [.ref a23, .int x1] h16 c17 s18 (xP P) (kI fun y24 h25 c26 s27 => 
    vC l G mX1_seen (wsN mX1_seen) d mc ms [.int y22, .int x2, .int y24, .ref q19] h25 c26 s27 (xP P) (kI fun y28 h29 c30 s31 => 
    P (.inl (some (.int y28))) h29)))
    ))))))))
set_option maxHeartbeats 4000000 in
theorem A_X1_seenFrom {l : Launch} {G : aG} {d mc ms : Nat} {P : aR → aH → Prop} {x0 : Nat} {x1 : Int32} {x2 : Int32} {h : aH} (hl : l.stackTraces = false) (hv : V_X1_seenFrom_0 l G d mc ms P x0 x1 x2 h) : aC l G mX1_seenFrom (wsN mX1_seenFrom) d mc ms [.ref x0, .int x1, .int x2] h P := by
  refine aC_ofF (M := mX1_seenFrom) rfl pX1_seenFrom (Nat.le_of_ble_eq_true rfl) hl ?_
  refine aw_eqv (lv2 := [(0, .ref x0), (1, .int x1), (2, .int x2)]) rfl rfl rfl rfl ?_
  unfold V_X1_seenFrom_0 at hv
  refine aw_aload_n 0 (x := x0) dX1_seenFrom_0 rfl rfl ?_
  refine aw_iload_n 1 dX1_seenFrom_1 rfl rfl ?_
  obtain ⟨⟨fs, he⟩, hv⟩ := hv
  obtain ⟨d2, mc2, ms2, Q, hM, hd9, hc9, hs9, hv, hx⟩ := hv
  refine aw_callV (rest := []) hM he rfl rfl nX1_checkEdge q1368 q1370 qs40 q119 q1371 dX1_seenFrom_2 rfl hd9 (by decide) (Nat.le_of_ble_eq_true rfl) hc9 hs9 ?_ ?_
  rotate_left
  · exact fun E h2 q => aX_out (hx E h2 q) rfl hc9 hs9
  intro v9 h2 hq
  have hv := hv v9 h2 hq
  obtain ⟨rfl, hv⟩ := hv
  refine aw_eqv (pc2 := 5) (st2 := []) rfl rfl rfl rfl ?_
  revert hv hc9 hs9; generalize 0 + mc2 = c3; generalize 0 + ms2 = s4; intro hc9 hs9 hv
  refine aw_iload_n 2 dX1_seenFrom_5 rfl rfl ?_
  have J9 : AW l G mX1_seenFrom d mc ms P 14 [(0, .ref x0), (1, .int x1), (2, .int x2)] [.int (if x2 < 0 then (0 : Int32) else 1)] h2 c3 s4 := by
    obtain ⟨d2, mc2, ms2, Q, hM, hd9, hc9, hs9, hv, hx⟩ := hv
    refine aw_callS (rest := []) hM nX1_checkIndex q1372 q1373 q119 q1374 dX1_seenFrom_14 rfl hd9 (by decide) (Nat.le_of_ble_eq_true rfl) hc9 hs9 ?_ ?_
    rotate_left
    · exact fun E h2 q => aX_out (hx E h2 q) rfl hc9 hs9
    intro v9 h7 hq
    have hv := hv v9 h7 hq
    obtain ⟨rfl, hv⟩ := hv
    refine aw_eqv (pc2 := 17) (st2 := []) rfl rfl rfl rfl ?_
    revert hv hc9 hs9; generalize c3 + mc2 = c8; generalize s4 + ms2 = s9; intro hc9 hs9 hv
    refine aw_aload_n 0 (x := x0) dX1_seenFrom_17 rfl rfl ?_
    refine aw_aload_n 0 (x := x0) dX1_seenFrom_18 rfl rfl ?_
    obtain ⟨fs, a10, he, hx, hv⟩ := hv
    refine aw_get (v := .ref a10) he rfl in_X1 1 (by decide) q435 (Or.inl rfl) hx dX1_seenFrom_19 ?_
    refine aw_iload_n 1 dX1_seenFrom_22 rfl rfl ?_
    obtain ⟨⟨fs, he⟩, hv⟩ := hv
    obtain ⟨d2, mc2, ms2, Q, hM, hd9, hc9, hs9, hv, hx⟩ := hv
    refine aw_callV (rest := [.ref x0]) hM he rfl rfl nX3_lineAt q531 q532 q533 q121 q534 dX1_seenFrom_23 rfl hd9 (by decide) (Nat.le_of_ble_eq_true rfl) hc9 hs9 ?_ ?_
    rotate_left
    · exact fun E h2 q => aX_out (hx E h2 q) rfl hc9 hs9
    intro v9 h12 hq
    have hv := hv v9 h12 hq
    obtain ⟨y11, rfl, hv⟩ := hv
    refine aw_eqv (pc2 := 26) (st2 := [.int y11, .ref x0]) rfl rfl rfl rfl ?_
    revert hv hc9 hs9; generalize c8 + mc2 = c13; generalize s9 + ms2 = s14; intro hc9 hs9 hv
    obtain ⟨⟨fs, he⟩, hv⟩ := hv
    obtain ⟨d2, mc2, ms2, Q, hM, hd9, hc9, hs9, hv, hx⟩ := hv
    refine aw_callV (rest := []) hM he rfl rfl nX1_settledLine q535 q537 qs8 q119 q538 dX1_seenFrom_26 rfl hd9 (by decide) (Nat.le_of_ble_eq_true rfl) hc9 hs9 ?_ ?_
    rotate_left
    · exact fun E h2 q => aX_out (hx E h2 q) rfl hc9 hs9
    intro v9 h16 hq
    have hv := hv v9 h16 hq
    obtain ⟨o15, rfl, hv⟩ := hv
    refine aw_eqv (pc2 := 29) (st2 := [va_rf o15]) rfl rfl rfl rfl ?_
    revert hv hc9 hs9; generalize c13 + mc2 = c17; generalize s14 + ms2 = s18; intro hc9 hs9 hv
    refine aw_astorer_n (lv' := [(3, va_rf o15), (0, .ref x0), (1, .int x1), (2, .int x2)]) dX1_seenFrom_29 rfl (Nat.le_of_ble_eq_true rfl) rfl ?_
    refine aw_aloadr_n 0 (x := o15) dX1_seenFrom_30 rfl rfl ?_
    refine aw_ifnonnull 38 dX1_seenFrom_31 (by decide) (fun q19 c20 => ?_) (fun c20 => ?_)
    · have hv := hv.2 q19 c20
      refine aw_eqv (lv2 := [(3, .ref q19), (0, .ref x0), (1, .int x1), (2, .int x2)]) (st2 := []) rfl (by first | rfl | (rw [c20]; rfl)) (by first | rfl | (rw [c20]; rfl)) rfl ?_
      refine aw_aload_n 1 (x := x0) dX1_seenFrom_38 rfl rfl ?_
      obtain ⟨fs, a21, he, hx, hv⟩ := hv
      refine aw_get (v := .ref a21) he rfl in_X1 1 (by decide) q435 (Or.inl rfl) hx dX1_seenFrom_39 ?_
      obtain ⟨fs, y22, he, hx, hv⟩ := hv
      refine aw_getN (v := .int y22) he rfl in_X3 5 (by decide) q335 (Or.inl rfl) hx dX1_seenFrom_42 ?_
      refine aw_iload_n 3 dX1_seenFrom_45 rfl rfl ?_
      refine aw_aload_n 1 (x := x0) dX1_seenFrom_46 rfl rfl ?_
      obtain ⟨fs, a23, he, hx, hv⟩ := hv
      refine aw_get (v := .ref a23) he rfl in_X1 1 (by decide) q435 (Or.inl rfl) hx dX1_seenFrom_47 ?_
      refine aw_iload_n 2 dX1_seenFrom_50 rfl rfl ?_
      obtain ⟨⟨fs, he⟩, hv⟩ := hv
      obtain ⟨d2, mc2, ms2, Q, hM, hd9, hc9, hs9, hv, hx⟩ := hv
      refine aw_callV (rest := [.int x2, .int y22]) hM he rfl rfl nX3_looksBack q551 q552 q553 q121 q554 dX1_seenFrom_51 rfl hd9 (by decide) (Nat.le_of_ble_eq_true rfl) hc9 hs9 ?_ ?_
      rotate_left
      · exact fun E h2 q => aX_out (hx E h2 q) rfl hc9 hs9
      intro v9 h25 hq
      have hv := hv v9 h25 hq
      obtain ⟨y24, rfl, hv⟩ := hv
      refine aw_eqv (pc2 := 54) (st2 := [.int y24, .int x2, .int y22]) rfl rfl rfl rfl ?_
      revert hv hc9 hs9; generalize c17 + mc2 = c26; generalize s18 + ms2 = s27; intro hc9 hs9 hv
      refine aw_aload_n 0 (x := q19) dX1_seenFrom_54 rfl rfl ?_
      obtain ⟨d2, mc2, ms2, Q, hM, hd9, hc9, hs9, hv, hx⟩ := hv
      refine aw_callS (rest := []) hM nX1_seen q555 q556 q119 q557 dX1_seenFrom_55 rfl hd9 (by decide) (Nat.le_of_ble_eq_true rfl) hc9 hs9 ?_ ?_
      rotate_left
      · exact fun E h2 q => aX_out (hx E h2 q) rfl hc9 hs9
      intro v9 h29 hq
      have hv := hv v9 h29 hq
      obtain ⟨y28, rfl, hv⟩ := hv
      refine aw_eqv (pc2 := 58) (st2 := [.int y28]) rfl rfl rfl rfl ?_
      revert hv hc9 hs9; generalize c26 + mc2 = c30; generalize s27 + ms2 = s31; intro hc9 hs9 hv
      exact aw_iret rfl dX1_seenFrom_58 hv hc9 hs9
    · have hv := hv.1 c20
      refine aw_iconst (v := (-1)) dX1_seenFrom_34 (by decide) ?_
      refine aw_goto 58 dX1_seenFrom_35 (by decide) ?_
      exact aw_iret rfl dX1_seenFrom_58 hv hc9 hs9
  refine aw_if_lt 13 dX1_seenFrom_6 (by decide) (fun c5 => ?_) (fun c5 => ?_)
  · have J9 := aw_ifT c5 J9
    refine aw_iconst (v := 0) dX1_seenFrom_13 (by decide) ?_
    exact J9
  · have J9 := aw_ifF c5 J9
    refine aw_iconst (v := 1) dX1_seenFrom_9 (by decide) ?_
    refine aw_goto 14 dX1_seenFrom_10 (by decide) ?_
    exact J9
def T_X1_reasonFor_51 (l : Launch) (G : aG) (d mc ms : Nat) (P : aR → aH → Prop) (x0 : Nat) (x1 : Int32) (x2 : Int32) (h : aH) (c s : Nat) : Prop := c ≤ mc → s ≤ ms → AW l G mX1_reasonFor d mc ms P 51 [(0, .ref x0), (1, .int x1), (2, .int x2)] [] h c s
def V_X1_reasonFor_51 (l : Launch) (G : aG) (d mc ms : Nat) (P : aR → aH → Prop) (x0 : Nat) (x1 : Int32) (x2 : Int32) (h : aH) (c s : Nat) : Prop :=
  P (.inl (some (.int 0))) h
set_option maxHeartbeats 4000000 in
theorem A_X1_reasonFor_51 {l : Launch} {G : aG} {d mc ms : Nat} {P : aR → aH → Prop} {x0 : Nat} {x1 : Int32} {x2 : Int32} {h : aH} {c s : Nat} (hl : l.stackTraces = false) (hv : V_X1_reasonFor_51 l G d mc ms P x0 x1 x2 h c s) : T_X1_reasonFor_51 l G d mc ms P x0 x1 x2 h c s := by
  intro hc hs
  unfold V_X1_reasonFor_51 at hv
  refine aw_iconst (v := 0) dX1_reasonFor_51 (by decide) ?_
  refine aw_istore_n (lv' := [(3, .int 0), (0, .ref x0), (1, .int x1), (2, .int x2)]) dX1_reasonFor_52 rfl (Nat.le_of_ble_eq_true rfl) rfl ?_
  refine aw_iload_n 0 dX1_reasonFor_53 rfl rfl ?_
  refine aw_if_eq 73 dX1_reasonFor_54 (by decide) (fun c1 => ?_) (fun c1 => absurd c1 (by decide))
  refine aw_iconst (v := 0) dX1_reasonFor_73 (by decide) ?_
  exact aw_iret rfl dX1_reasonFor_74 hv hc hs
def V_X1_reasonFor_0 (l : Launch) (G : aG) (d mc ms : Nat) (P : aR → aH → Prop) (x0 : Nat) (x1 : Int32) (x2 : Int32) (h : aH) : Prop :=
  vIs h x0 1 (
  vC l G mX1_checkCell (wsN mX1_checkCell) d mc ms [.ref x0, .int x1] h 0 0 (xP P) (kV fun h3 c4 s5 => 
  vIs h3 x0 1 (
  vC l G mX1_checkThing (wsN mX1_checkThing) d mc ms [.ref x0, .int x2] h3 c4 s5 (xP P) (kV fun h7 c8 s9 => 
  vR h7 x0 1 2 fun a10 =>
  vR h7 a10 5 1 fun a11 =>
  vA .int h7 a11 x1 fun y12 =>
  vC l G mX1_has (wsN mX1_has) d mc ms [.int y12, .int x2] h7 c8 s9 (xP P) (kI fun y13 h14 c15 s16 => 
  (y13 = 0 → 
    T_X1_reasonFor_51 l G d mc ms P x0 x1 x2 h14 c15 s16
    ) ∧ (¬ y13 = 0 → 
    vR h14 x0 1 2 fun a18 =>
    vIs h14 a18 5 (
    vC l G mX5_isSettled (wsN mX5_isSettled) d mc ms [.ref a18, .int x1] h14 c15 s16 (xP P) (kI fun y19 h20 c21 s22 => 
    (¬ y19 = 0 → 
      T_X1_reasonFor_51 l G d mc ms P x0 x1 x2 h20 c21 s22
      ) ∧ (y19 = 0 → 
      vR h20 x0 1 2 fun a24 =>
      vIs h20 a24 5 (
      vC l G mX5_isBroken (wsN mX5_isBroken) d mc ms [.ref a24] h20 c21 s22 (xP P) (kI fun y25 h26 c27 s28 => 
      ((if y25 = 0 then (1 : Int32) else 0) = 0 → 
        P (.inl (some (.int 0))) h26
        ) ∧ (¬ (if y25 = 0 then (1 : Int32) else 0) = 0 → 
        vR h26 x0 1 2 fun a31 =>
        vR h26 x0 1 3 fun a32 =>
        vIs h26 a31 5 (
        vC l G mX5_reasonFor (wsN mX5_reasonFor) d mc ms [.ref a31, .int x1, .int x2, .ref a32] h26 c27 s28 (xP P) (kI fun y33 h34 c35 s36 => 
        P (.inl (some (.int y33))) h34))
        )))
      )))
    ))))))
set_option maxHeartbeats 4000000 in
theorem A_X1_reasonFor {l : Launch} {G : aG} {d mc ms : Nat} {P : aR → aH → Prop} {x0 : Nat} {x1 : Int32} {x2 : Int32} {h : aH} (hl : l.stackTraces = false) (hv : V_X1_reasonFor_0 l G d mc ms P x0 x1 x2 h) : aC l G mX1_reasonFor (wsN mX1_reasonFor) d mc ms [.ref x0, .int x1, .int x2] h P := by
  refine aC_ofF (M := mX1_reasonFor) rfl pX1_reasonFor (Nat.le_of_ble_eq_true rfl) hl ?_
  refine aw_eqv (lv2 := [(0, .ref x0), (1, .int x1), (2, .int x2)]) rfl rfl rfl rfl ?_
  unfold V_X1_reasonFor_0 at hv
  refine aw_aload_n 0 (x := x0) dX1_reasonFor_0 rfl rfl ?_
  refine aw_iload_n 1 dX1_reasonFor_1 rfl rfl ?_
  obtain ⟨⟨fs, he⟩, hv⟩ := hv
  obtain ⟨d2, mc2, ms2, Q, hM, hd9, hc9, hs9, hv, hx⟩ := hv
  refine aw_callV (rest := []) hM he rfl rfl nX1_checkCell q1479 q1481 qs47 q119 q1482 dX1_reasonFor_2 rfl hd9 (by decide) (Nat.le_of_ble_eq_true rfl) hc9 hs9 ?_ ?_
  rotate_left
  · exact fun E h2 q => aX_out (hx E h2 q) rfl hc9 hs9
  intro v9 h3 hq
  have hv := hv v9 h3 hq
  obtain ⟨rfl, hv⟩ := hv
  refine aw_eqv (pc2 := 5) (st2 := []) rfl rfl rfl rfl ?_
  revert hv hc9 hs9; generalize 0 + mc2 = c4; generalize 0 + ms2 = s5; intro hc9 hs9 hv
  refine aw_aload_n 0 (x := x0) dX1_reasonFor_5 rfl rfl ?_
  refine aw_iload_n 2 dX1_reasonFor_6 rfl rfl ?_
  obtain ⟨⟨fs, he⟩, hv⟩ := hv
  obtain ⟨d2, mc2, ms2, Q, hM, hd9, hc9, hs9, hv, hx⟩ := hv
  refine aw_callV (rest := []) hM he rfl rfl nX1_checkThing q1483 q1485 qs48 q119 q1486 dX1_reasonFor_7 rfl hd9 (by decide) (Nat.le_of_ble_eq_true rfl) hc9 hs9 ?_ ?_
  rotate_left
  · exact fun E h2 q => aX_out (hx E h2 q) rfl hc9 hs9
  intro v9 h7 hq
  have hv := hv v9 h7 hq
  obtain ⟨rfl, hv⟩ := hv
  refine aw_eqv (pc2 := 10) (st2 := []) rfl rfl rfl rfl ?_
  revert hv hc9 hs9; generalize c4 + mc2 = c8; generalize s5 + ms2 = s9; intro hc9 hs9 hv
  refine aw_aload_n 0 (x := x0) dX1_reasonFor_10 rfl rfl ?_
  obtain ⟨fs, a10, he, hx, hv⟩ := hv
  refine aw_get (v := .ref a10) he rfl in_X1 2 (by decide) q436 (Or.inl rfl) hx dX1_reasonFor_11 ?_
  obtain ⟨fs, a11, he, hx, hv⟩ := hv
  refine aw_getN (v := .ref a11) he rfl in_X5 1 (by decide) q378 (Or.inl rfl) hx dX1_reasonFor_14 ?_
  refine aw_iload_n 1 dX1_reasonFor_17 rfl rfl ?_
  obtain ⟨n9, f9, he, hin, hv⟩ := hv
  refine aw_iald he hin dX1_reasonFor_18 ?_
  revert hv; generalize f9 (x1).toNatClampNeg = y12; intro hv
  refine aw_iload_n 2 dX1_reasonFor_19 rfl rfl ?_
  obtain ⟨d2, mc2, ms2, Q, hM, hd9, hc9, hs9, hv, hx⟩ := hv
  refine aw_callS (rest := []) hM nX1_has q582 q298 q119 q299 dX1_reasonFor_20 rfl hd9 (by decide) (Nat.le_of_ble_eq_true rfl) hc9 hs9 ?_ ?_
  rotate_left
  · exact fun E h2 q => aX_out (hx E h2 q) rfl hc9 hs9
  intro v9 h14 hq
  have hv := hv v9 h14 hq
  obtain ⟨y13, rfl, hv⟩ := hv
  refine aw_eqv (pc2 := 23) (st2 := [.int y13]) rfl rfl rfl rfl ?_
  revert hv hc9 hs9; generalize c8 + mc2 = c15; generalize s9 + ms2 = s16; intro hc9 hs9 hv
  refine aw_if_eq 51 dX1_reasonFor_23 (by decide) (fun c17 => ?_) (fun c17 => ?_)
  · have hv := hv.1 c17
    exact hv hc9 hs9
  · have hv := hv.2 c17
    refine aw_aload_n 0 (x := x0) dX1_reasonFor_26 rfl rfl ?_
    obtain ⟨fs, a18, he, hx, hv⟩ := hv
    refine aw_get (v := .ref a18) he rfl in_X1 2 (by decide) q436 (Or.inl rfl) hx dX1_reasonFor_27 ?_
    refine aw_iload_n 1 dX1_reasonFor_30 rfl rfl ?_
    obtain ⟨⟨fs, he⟩, hv⟩ := hv
    obtain ⟨d2, mc2, ms2, Q, hM, hd9, hc9, hs9, hv, hx⟩ := hv
    refine aw_callV (rest := []) hM he rfl rfl nX5_isSettled q609 q610 q611 q132 q612 dX1_reasonFor_31 rfl hd9 (by decide) (Nat.le_of_ble_eq_true rfl) hc9 hs9 ?_ ?_
    rotate_left
    · exact fun E h2 q => aX_out (hx E h2 q) rfl hc9 hs9
    intro v9 h20 hq
    have hv := hv v9 h20 hq
    obtain ⟨y19, rfl, hv⟩ := hv
    refine aw_eqv (pc2 := 34) (st2 := [.int y19]) rfl rfl rfl rfl ?_
    revert hv hc9 hs9; generalize c15 + mc2 = c21; generalize s16 + ms2 = s22; intro hc9 hs9 hv
    refine aw_if_ne 51 dX1_reasonFor_34 (by decide) (fun c23 => ?_) (fun c23 => ?_)
    · have hv := hv.1 c23
      exact hv hc9 hs9
    · have hv := hv.2 c23
      refine aw_aload_n 0 (x := x0) dX1_reasonFor_37 rfl rfl ?_
      obtain ⟨fs, a24, he, hx, hv⟩ := hv
      refine aw_get (v := .ref a24) he rfl in_X1 2 (by decide) q436 (Or.inl rfl) hx dX1_reasonFor_38 ?_
      obtain ⟨⟨fs, he⟩, hv⟩ := hv
      obtain ⟨d2, mc2, ms2, Q, hM, hd9, hc9, hs9, hv, hx⟩ := hv
      refine aw_callV (rest := []) hM he rfl rfl nX5_isBroken q618 q619 q620 q132 q621 dX1_reasonFor_41 rfl hd9 (by decide) (Nat.le_of_ble_eq_true rfl) hc9 hs9 ?_ ?_
      rotate_left
      · exact fun E h2 q => aX_out (hx E h2 q) rfl hc9 hs9
      intro v9 h26 hq
      have hv := hv v9 h26 hq
      obtain ⟨y25, rfl, hv⟩ := hv
      refine aw_eqv (pc2 := 44) (st2 := [.int y25]) rfl rfl rfl rfl ?_
      revert hv hc9 hs9; generalize c21 + mc2 = c27; generalize s22 + ms2 = s28; intro hc9 hs9 hv
      have J9 : AW l G mX1_reasonFor d mc ms P 52 [(0, .ref x0), (1, .int x1), (2, .int x2)] [.int (if y25 = 0 then (1 : Int32) else 0)] h26 c27 s28 := by
        refine aw_istore_n (lv' := [(3, .int (if y25 = 0 then (1 : Int32) else 0)), (0, .ref x0), (1, .int x1), (2, .int x2)]) dX1_reasonFor_52 rfl (Nat.le_of_ble_eq_true rfl) rfl ?_
        refine aw_iload_n 0 dX1_reasonFor_53 rfl rfl ?_
        refine aw_if_eq 73 dX1_reasonFor_54 (by decide) (fun c30 => ?_) (fun c30 => ?_)
        · have hv := hv.1 c30
          refine aw_iconst (v := 0) dX1_reasonFor_73 (by decide) ?_
          exact aw_iret rfl dX1_reasonFor_74 hv hc9 hs9
        · have hv := hv.2 c30
          refine aw_aload_n 1 (x := x0) dX1_reasonFor_57 rfl rfl ?_
          obtain ⟨fs, a31, he, hx, hv⟩ := hv
          refine aw_get (v := .ref a31) he rfl in_X1 2 (by decide) q436 (Or.inl rfl) hx dX1_reasonFor_58 ?_
          refine aw_iload_n 2 dX1_reasonFor_61 rfl rfl ?_
          refine aw_iload_n 3 dX1_reasonFor_62 rfl rfl ?_
          refine aw_aload_n 1 (x := x0) dX1_reasonFor_63 rfl rfl ?_
          obtain ⟨fs, a32, he, hx, hv⟩ := hv
          refine aw_get (v := .ref a32) he rfl in_X1 3 (by decide) q437 (Or.inl rfl) hx dX1_reasonFor_64 ?_
          obtain ⟨⟨fs, he⟩, hv⟩ := hv
          obtain ⟨d2, mc2, ms2, Q, hM, hd9, hc9, hs9, hv, hx⟩ := hv
          refine aw_callV (rest := []) hM he rfl rfl nX5_reasonFor q1603 q1604 q1605 q132 q1606 dX1_reasonFor_67 rfl hd9 (by decide) (Nat.le_of_ble_eq_true rfl) hc9 hs9 ?_ ?_
          rotate_left
          · exact fun E h2 q => aX_out (hx E h2 q) rfl hc9 hs9
          intro v9 h34 hq
          have hv := hv v9 h34 hq
          obtain ⟨y33, rfl, hv⟩ := hv
          refine aw_eqv (pc2 := 70) (st2 := [.int y33]) rfl rfl rfl rfl ?_
          revert hv hc9 hs9; generalize c27 + mc2 = c35; generalize s28 + ms2 = s36; intro hc9 hs9 hv
          refine aw_goto 74 dX1_reasonFor_70 (by decide) ?_
          exact aw_iret rfl dX1_reasonFor_74 hv hc9 hs9
      refine aw_if_ne 51 dX1_reasonFor_44 (by decide) (fun c29 => ?_) (fun c29 => ?_)
      · have J9 := aw_ifF c29 J9
        refine aw_iconst (v := 0) dX1_reasonFor_51 (by decide) ?_
        exact J9
      · have J9 := aw_ifT c29 J9
        refine aw_iconst (v := 1) dX1_reasonFor_47 (by decide) ?_
        refine aw_goto 52 dX1_reasonFor_48 (by decide) ?_
        exact J9
def V_X1_step_0 (l : Launch) (G : aG) (d mc ms : Nat) (P : aR → aH → Prop) (x0 : Nat) (h : aH) : Prop :=
  vR h x0 1 2 fun a1 =>
  vR h x0 1 3 fun a2 =>
  vIs h a1 5 (
  vC l G mX5_next (wsN mX5_next) d mc ms [.ref a1, .int 6, .ref a2] h 0 0 (xP P) (kI fun y3 h4 c5 s6 => 
  vC l G mX1_checkState (wsN mX1_checkState) d mc ms [.int (if y3 = ((-1)) then (0 : Int32) else 1)] h4 c5 s6 (xP P) (kV fun h9 c10 s11 => 
  vIs h9 x0 1 (
  vC l G mX1_recordIf (wsN mX1_recordIf) d mc ms [.ref x0, .int 1] h9 c10 s11 (xP P) (kV fun h13 c14 s15 => 
  vR h13 x0 1 2 fun a16 =>
  vIs h13 a16 5 (
  vC l G mX5_make (wsN mX5_make) d mc ms [.ref a16, .int y3] h13 c14 s15 (xP P) (kI fun y17 h18 c19 s20 => 
  P (.inl (some (.int y17))) h18)))))))
set_option maxHeartbeats 4000000 in
theorem A_X1_step {l : Launch} {G : aG} {d mc ms : Nat} {P : aR → aH → Prop} {x0 : Nat} {h : aH} (hl : l.stackTraces = false) (hv : V_X1_step_0 l G d mc ms P x0 h) : aC l G mX1_step (wsN mX1_step) d mc ms [.ref x0] h P := by
  refine aC_ofF (M := mX1_step) rfl pX1_step (Nat.le_of_ble_eq_true rfl) hl ?_
  refine aw_eqv (lv2 := [(0, .ref x0)]) rfl rfl rfl rfl ?_
  unfold V_X1_step_0 at hv
  refine aw_aload_n 0 (x := x0) dX1_step_0 rfl rfl ?_
  obtain ⟨fs, a1, he, hx, hv⟩ := hv
  refine aw_get (v := .ref a1) he rfl in_X1 2 (by decide) q436 (Or.inl rfl) hx dX1_step_1 ?_
  refine aw_bipush (v := 6) dX1_step_4 (by decide) ?_
  refine aw_aload_n 0 (x := x0) dX1_step_6 rfl rfl ?_
  obtain ⟨fs, a2, he, hx, hv⟩ := hv
  refine aw_get (v := .ref a2) he rfl in_X1 3 (by decide) q437 (Or.inl rfl) hx dX1_step_7 ?_
  obtain ⟨⟨fs, he⟩, hv⟩ := hv
  obtain ⟨d2, mc2, ms2, Q, hM, hd9, hc9, hs9, hv, hx⟩ := hv
  refine aw_callV (rest := []) hM he rfl rfl nX5_next q692 q693 q694 q132 q695 dX1_step_10 rfl hd9 (by decide) (Nat.le_of_ble_eq_true rfl) hc9 hs9 ?_ ?_
  rotate_left
  · exact fun E h2 q => aX_out (hx E h2 q) rfl hc9 hs9
  intro v9 h4 hq
  have hv := hv v9 h4 hq
  obtain ⟨y3, rfl, hv⟩ := hv
  refine aw_eqv (pc2 := 13) (st2 := [.int y3]) rfl rfl rfl rfl ?_
  revert hv hc9 hs9; generalize 0 + mc2 = c5; generalize 0 + ms2 = s6; intro hc9 hs9 hv
  refine aw_istore_n (lv' := [(1, .int y3), (0, .ref x0)]) dX1_step_13 rfl (Nat.le_of_ble_eq_true rfl) rfl ?_
  refine aw_iload_n 0 dX1_step_14 rfl rfl ?_
  refine aw_iconst (v := (-1)) dX1_step_15 (by decide) ?_
  have J9 : AW l G mX1_step d mc ms P 24 [(1, .int y3), (0, .ref x0)] [.int (if y3 = ((-1)) then (0 : Int32) else 1)] h4 c5 s6 := by
    obtain ⟨d2, mc2, ms2, Q, hM, hd9, hc9, hs9, hv, hx⟩ := hv
    refine aw_callS (rest := []) hM nX1_checkState q1406 q1407 q119 q1408 dX1_step_24 rfl hd9 (by decide) (Nat.le_of_ble_eq_true rfl) hc9 hs9 ?_ ?_
    rotate_left
    · exact fun E h2 q => aX_out (hx E h2 q) rfl hc9 hs9
    intro v9 h9 hq
    have hv := hv v9 h9 hq
    obtain ⟨rfl, hv⟩ := hv
    refine aw_eqv (pc2 := 27) (st2 := []) rfl rfl rfl rfl ?_
    revert hv hc9 hs9; generalize c5 + mc2 = c10; generalize s6 + ms2 = s11; intro hc9 hs9 hv
    refine aw_aload_n 1 (x := x0) dX1_step_27 rfl rfl ?_
    refine aw_iconst (v := 1) dX1_step_28 (by decide) ?_
    obtain ⟨⟨fs, he⟩, hv⟩ := hv
    obtain ⟨d2, mc2, ms2, Q, hM, hd9, hc9, hs9, hv, hx⟩ := hv
    refine aw_callV (rest := []) hM he rfl rfl nX1_recordIf q464 q466 qs6 q119 q467 dX1_step_29 rfl hd9 (by decide) (Nat.le_of_ble_eq_true rfl) hc9 hs9 ?_ ?_
    rotate_left
    · exact fun E h2 q => aX_out (hx E h2 q) rfl hc9 hs9
    intro v9 h13 hq
    have hv := hv v9 h13 hq
    obtain ⟨rfl, hv⟩ := hv
    refine aw_eqv (pc2 := 32) (st2 := []) rfl rfl rfl rfl ?_
    revert hv hc9 hs9; generalize c10 + mc2 = c14; generalize s11 + ms2 = s15; intro hc9 hs9 hv
    refine aw_aload_n 1 (x := x0) dX1_step_32 rfl rfl ?_
    obtain ⟨fs, a16, he, hx, hv⟩ := hv
    refine aw_get (v := .ref a16) he rfl in_X1 2 (by decide) q436 (Or.inl rfl) hx dX1_step_33 ?_
    refine aw_iload_n 0 dX1_step_36 rfl rfl ?_
    obtain ⟨⟨fs, he⟩, hv⟩ := hv
    obtain ⟨d2, mc2, ms2, Q, hM, hd9, hc9, hs9, hv, hx⟩ := hv
    refine aw_callV (rest := []) hM he rfl rfl nX5_make q1614 q769 q770 q132 q771 dX1_step_37 rfl hd9 (by decide) (Nat.le_of_ble_eq_true rfl) hc9 hs9 ?_ ?_
    rotate_left
    · exact fun E h2 q => aX_out (hx E h2 q) rfl hc9 hs9
    intro v9 h18 hq
    have hv := hv v9 h18 hq
    obtain ⟨y17, rfl, hv⟩ := hv
    refine aw_eqv (pc2 := 40) (st2 := [.int y17]) rfl rfl rfl rfl ?_
    revert hv hc9 hs9; generalize c14 + mc2 = c19; generalize s15 + ms2 = s20; intro hc9 hs9 hv
    exact aw_iret rfl dX1_step_40 hv hc9 hs9
  refine aw_icmp_eq 23 dX1_step_16 (by decide) (fun c7 => ?_) (fun c7 => ?_)
  · have J9 := aw_ifT c7 J9
    refine aw_iconst (v := 0) dX1_step_23 (by decide) ?_
    exact J9
  · have J9 := aw_ifF c7 J9
    refine aw_iconst (v := 1) dX1_step_19 (by decide) ?_
    refine aw_goto 24 dX1_step_20 (by decide) ?_
    exact J9
def V_X1_checkReason_0 (l : Launch) (G : aG) (d mc ms : Nat) (P : aR → aH → Prop) (x0 : Int32) (h : aH) : Prop :=
  vC l G mX1_isIn (wsN mX1_isIn) d mc ms [.int x0, .int 1, .int 6] h 0 0 (xP P) (kI fun y1 h2 c3 s4 => 
  vC l G mX1_checkArgument (wsN mX1_checkArgument) d mc ms [.int y1] h2 c3 s4 (xP P) (kV fun h6 c7 s8 => 
  P (.inl none) h6))
set_option maxHeartbeats 4000000 in
theorem A_X1_checkReason {l : Launch} {G : aG} {d mc ms : Nat} {P : aR → aH → Prop} {x0 : Int32} {h : aH} (hl : l.stackTraces = false) (hv : V_X1_checkReason_0 l G d mc ms P x0 h) : aC l G mX1_checkReason (wsN mX1_checkReason) d mc ms [.int x0] h P := by
  refine aC_ofF (M := mX1_checkReason) rfl pX1_checkReason (Nat.le_of_ble_eq_true rfl) hl ?_
  refine aw_eqv (lv2 := [(0, .int x0)]) rfl rfl rfl rfl ?_
  unfold V_X1_checkReason_0 at hv
  refine aw_iload_n 0 dX1_checkReason_0 rfl rfl ?_
  refine aw_iconst (v := 1) dX1_checkReason_1 (by decide) ?_
  refine aw_bipush (v := 6) dX1_checkReason_2 (by decide) ?_
  obtain ⟨d2, mc2, ms2, Q, hM, hd9, hc9, hs9, hv, hx⟩ := hv
  refine aw_callS (rest := []) hM nX1_isIn q1338 q1239 q119 q1240 dX1_checkReason_4 rfl hd9 (by decide) (Nat.le_of_ble_eq_true rfl) hc9 hs9 ?_ ?_
  rotate_left
  · exact fun E h2 q => aX_out (hx E h2 q) rfl hc9 hs9
  intro v9 h2 hq
  have hv := hv v9 h2 hq
  obtain ⟨y1, rfl, hv⟩ := hv
  refine aw_eqv (pc2 := 7) (st2 := [.int y1]) rfl rfl rfl rfl ?_
  revert hv hc9 hs9; generalize 0 + mc2 = c3; generalize 0 + ms2 = s4; intro hc9 hs9 hv
  obtain ⟨d2, mc2, ms2, Q, hM, hd9, hc9, hs9, hv, hx⟩ := hv
  refine aw_callS (rest := []) hM nX1_checkArgument q1339 q1340 q119 q1341 dX1_checkReason_7 rfl hd9 (by decide) (Nat.le_of_ble_eq_true rfl) hc9 hs9 ?_ ?_
  rotate_left
  · exact fun E h2 q => aX_out (hx E h2 q) rfl hc9 hs9
  intro v9 h6 hq
  have hv := hv v9 h6 hq
  obtain ⟨rfl, hv⟩ := hv
  refine aw_eqv (pc2 := 10) (st2 := []) rfl rfl rfl rfl ?_
  revert hv hc9 hs9; generalize c3 + mc2 = c7; generalize s4 + ms2 = s8; intro hc9 hs9 hv
  exact aw_vret rfl dX1_checkReason_10 hv hc9 hs9
def V_X1_stepAll_0 (l : Launch) (G : aG) (d mc ms : Nat) (P : aR → aH → Prop) (x0 : Nat) (x1 : Int32) (h : aH) : Prop :=
  vC l G mX1_checkReason (wsN mX1_checkReason) d mc ms [.int x1] h 0 0 (xP P) (kV fun h2 c3 s4 => 
  vIs h2 x0 1 (
  vC l G mX1_recordIf (wsN mX1_recordIf) d mc ms [.ref x0, .int 1] h2 c3 s4 (xP P) (kV fun h6 c7 s8 => 
  vR h6 x0 1 2 fun a9 =>
  vR h6 x0 1 3 fun a10 =>
  vIs h6 a9 5 (
  vC l G mX5_stepAll (wsN mX5_stepAll) d mc ms [.ref a9, .int x1, .ref a10] h6 c7 s8 (xP P) (kI fun y11 h12 c13 s14 => 
  P (.inl (some (.int y11))) h12)))))
set_option maxHeartbeats 4000000 in
theorem A_X1_stepAll {l : Launch} {G : aG} {d mc ms : Nat} {P : aR → aH → Prop} {x0 : Nat} {x1 : Int32} {h : aH} (hl : l.stackTraces = false) (hv : V_X1_stepAll_0 l G d mc ms P x0 x1 h) : aC l G mX1_stepAll (wsN mX1_stepAll) d mc ms [.ref x0, .int x1] h P := by
  refine aC_ofF (M := mX1_stepAll) rfl pX1_stepAll (Nat.le_of_ble_eq_true rfl) hl ?_
  refine aw_eqv (lv2 := [(0, .ref x0), (1, .int x1)]) rfl rfl rfl rfl ?_
  unfold V_X1_stepAll_0 at hv
  refine aw_iload_n 1 dX1_stepAll_0 rfl rfl ?_
  obtain ⟨d2, mc2, ms2, Q, hM, hd9, hc9, hs9, hv, hx⟩ := hv
  refine aw_callS (rest := []) hM nX1_checkReason q1622 q1623 q119 q1624 dX1_stepAll_1 rfl hd9 (by decide) (Nat.le_of_ble_eq_true rfl) hc9 hs9 ?_ ?_
  rotate_left
  · exact fun E h2 q => aX_out (hx E h2 q) rfl hc9 hs9
  intro v9 h2 hq
  have hv := hv v9 h2 hq
  obtain ⟨rfl, hv⟩ := hv
  refine aw_eqv (pc2 := 4) (st2 := []) rfl rfl rfl rfl ?_
  revert hv hc9 hs9; generalize 0 + mc2 = c3; generalize 0 + ms2 = s4; intro hc9 hs9 hv
  refine aw_aload_n 0 (x := x0) dX1_stepAll_4 rfl rfl ?_
  refine aw_iconst (v := 1) dX1_stepAll_5 (by decide) ?_
  obtain ⟨⟨fs, he⟩, hv⟩ := hv
  obtain ⟨d2, mc2, ms2, Q, hM, hd9, hc9, hs9, hv, hx⟩ := hv
  refine aw_callV (rest := []) hM he rfl rfl nX1_recordIf q464 q466 qs6 q119 q467 dX1_stepAll_6 rfl hd9 (by decide) (Nat.le_of_ble_eq_true rfl) hc9 hs9 ?_ ?_
  rotate_left
  · exact fun E h2 q => aX_out (hx E h2 q) rfl hc9 hs9
  intro v9 h6 hq
  have hv := hv v9 h6 hq
  obtain ⟨rfl, hv⟩ := hv
  refine aw_eqv (pc2 := 9) (st2 := []) rfl rfl rfl rfl ?_
  revert hv hc9 hs9; generalize c3 + mc2 = c7; generalize s4 + ms2 = s8; intro hc9 hs9 hv
  refine aw_aload_n 0 (x := x0) dX1_stepAll_9 rfl rfl ?_
  obtain ⟨fs, a9, he, hx, hv⟩ := hv
  refine aw_get (v := .ref a9) he rfl in_X1 2 (by decide) q436 (Or.inl rfl) hx dX1_stepAll_10 ?_
  refine aw_iload_n 1 dX1_stepAll_13 rfl rfl ?_
  refine aw_aload_n 0 (x := x0) dX1_stepAll_14 rfl rfl ?_
  obtain ⟨fs, a10, he, hx, hv⟩ := hv
  refine aw_get (v := .ref a10) he rfl in_X1 3 (by decide) q437 (Or.inl rfl) hx dX1_stepAll_15 ?_
  obtain ⟨⟨fs, he⟩, hv⟩ := hv
  obtain ⟨d2, mc2, ms2, Q, hM, hd9, hc9, hs9, hv, hx⟩ := hv
  refine aw_callV (rest := []) hM he rfl rfl nX5_stepAll q763 q764 q765 q132 q766 dX1_stepAll_18 rfl hd9 (by decide) (Nat.le_of_ble_eq_true rfl) hc9 hs9 ?_ ?_
  rotate_left
  · exact fun E h2 q => aX_out (hx E h2 q) rfl hc9 hs9
  intro v9 h12 hq
  have hv := hv v9 h12 hq
  obtain ⟨y11, rfl, hv⟩ := hv
  refine aw_eqv (pc2 := 21) (st2 := [.int y11]) rfl rfl rfl rfl ?_
  revert hv hc9 hs9; generalize c7 + mc2 = c13; generalize s8 + ms2 = s14; intro hc9 hs9 hv
  exact aw_iret rfl dX1_stepAll_21 hv hc9 hs9
def V_X1_stepsUpTo_0 (l : Launch) (G : aG) (d mc ms : Nat) (P : aR → aH → Prop) (x0 : Nat) (x1 : Int32) (h : aH) : Prop :=
  vC l G mX1_checkReason (wsN mX1_checkReason) d mc ms [.int x1] h 0 0 (xP P) (kV fun h2 c3 s4 => 
  vR h2 x0 1 4 fun a5 =>
  vR h2 x0 1 2 fun a6 =>
  vIs h2 a5 5 (
  vC l G mX5_setThings (wsN mX5_setThings) d mc ms [.ref a5, .ref a6] h2 c3 s4 (xP P) (kV fun h8 c9 s10 => 
  vR h8 x0 1 4 fun a11 =>
  vR h8 x0 1 3 fun a12 =>
  vIs h8 a11 5 (
  vC l G mX5_stepAll (wsN mX5_stepAll) d mc ms [.ref a11, .int x1, .ref a12] h8 c9 s10 (xP P) (kI fun y13 h14 c15 s16 => 
  P (.inl (some (.int y13))) h14)))))
set_option maxHeartbeats 4000000 in
theorem A_X1_stepsUpTo {l : Launch} {G : aG} {d mc ms : Nat} {P : aR → aH → Prop} {x0 : Nat} {x1 : Int32} {h : aH} (hl : l.stackTraces = false) (hv : V_X1_stepsUpTo_0 l G d mc ms P x0 x1 h) : aC l G mX1_stepsUpTo (wsN mX1_stepsUpTo) d mc ms [.ref x0, .int x1] h P := by
  refine aC_ofF (M := mX1_stepsUpTo) rfl pX1_stepsUpTo (Nat.le_of_ble_eq_true rfl) hl ?_
  refine aw_eqv (lv2 := [(0, .ref x0), (1, .int x1)]) rfl rfl rfl rfl ?_
  unfold V_X1_stepsUpTo_0 at hv
  refine aw_iload_n 1 dX1_stepsUpTo_0 rfl rfl ?_
  obtain ⟨d2, mc2, ms2, Q, hM, hd9, hc9, hs9, hv, hx⟩ := hv
  refine aw_callS (rest := []) hM nX1_checkReason q1622 q1623 q119 q1624 dX1_stepsUpTo_1 rfl hd9 (by decide) (Nat.le_of_ble_eq_true rfl) hc9 hs9 ?_ ?_
  rotate_left
  · exact fun E h2 q => aX_out (hx E h2 q) rfl hc9 hs9
  intro v9 h2 hq
  have hv := hv v9 h2 hq
  obtain ⟨rfl, hv⟩ := hv
  refine aw_eqv (pc2 := 4) (st2 := []) rfl rfl rfl rfl ?_
  revert hv hc9 hs9; generalize 0 + mc2 = c3; generalize 0 + ms2 = s4; intro hc9 hs9 hv
  refine aw_aload_n 0 (x := x0) dX1_stepsUpTo_4 rfl rfl ?_
  obtain ⟨fs, a5, he, hx, hv⟩ := hv
  refine aw_get (v := .ref a5) he rfl in_X1 4 (by decide) q438 (Or.inl rfl) hx dX1_stepsUpTo_5 ?_
  refine aw_aload_n 0 (x := x0) dX1_stepsUpTo_8 rfl rfl ?_
  obtain ⟨fs, a6, he, hx, hv⟩ := hv
  refine aw_get (v := .ref a6) he rfl in_X1 2 (by decide) q436 (Or.inl rfl) hx dX1_stepsUpTo_9 ?_
  obtain ⟨⟨fs, he⟩, hv⟩ := hv
  obtain ⟨d2, mc2, ms2, Q, hM, hd9, hc9, hs9, hv, hx⟩ := hv
  refine aw_callV (rest := []) hM he rfl rfl nX5_setThings q571 q513 q514 q132 q515 dX1_stepsUpTo_12 rfl hd9 (by decide) (Nat.le_of_ble_eq_true rfl) hc9 hs9 ?_ ?_
  rotate_left
  · exact fun E h2 q => aX_out (hx E h2 q) rfl hc9 hs9
  intro v9 h8 hq
  have hv := hv v9 h8 hq
  obtain ⟨rfl, hv⟩ := hv
  refine aw_eqv (pc2 := 15) (st2 := []) rfl rfl rfl rfl ?_
  revert hv hc9 hs9; generalize c3 + mc2 = c9; generalize s4 + ms2 = s10; intro hc9 hs9 hv
  refine aw_aload_n 0 (x := x0) dX1_stepsUpTo_15 rfl rfl ?_
  obtain ⟨fs, a11, he, hx, hv⟩ := hv
  refine aw_get (v := .ref a11) he rfl in_X1 4 (by decide) q438 (Or.inl rfl) hx dX1_stepsUpTo_16 ?_
  refine aw_iload_n 1 dX1_stepsUpTo_19 rfl rfl ?_
  refine aw_aload_n 0 (x := x0) dX1_stepsUpTo_20 rfl rfl ?_
  obtain ⟨fs, a12, he, hx, hv⟩ := hv
  refine aw_get (v := .ref a12) he rfl in_X1 3 (by decide) q437 (Or.inl rfl) hx dX1_stepsUpTo_21 ?_
  obtain ⟨⟨fs, he⟩, hv⟩ := hv
  obtain ⟨d2, mc2, ms2, Q, hM, hd9, hc9, hs9, hv, hx⟩ := hv
  refine aw_callV (rest := []) hM he rfl rfl nX5_stepAll q763 q764 q765 q132 q766 dX1_stepsUpTo_24 rfl hd9 (by decide) (Nat.le_of_ble_eq_true rfl) hc9 hs9 ?_ ?_
  rotate_left
  · exact fun E h2 q => aX_out (hx E h2 q) rfl hc9 hs9
  intro v9 h14 hq
  have hv := hv v9 h14 hq
  obtain ⟨y13, rfl, hv⟩ := hv
  refine aw_eqv (pc2 := 27) (st2 := [.int y13]) rfl rfl rfl rfl ?_
  revert hv hc9 hs9; generalize c9 + mc2 = c15; generalize s10 + ms2 = s16; intro hc9 hs9 hv
  exact aw_iret rfl dX1_stepsUpTo_27 hv hc9 hs9
def V_X1_firstThing_0 (l : Launch) (G : aG) (d mc ms : Nat) (P : aR → aH → Prop) (x0 : Nat) (x1 : Int32) (h : aH) : Prop :=
  vIs h x0 1 (
  vC l G mX1_checkCell (wsN mX1_checkCell) d mc ms [.ref x0, .int x1] h 0 0 (xP P) (kV fun h2 c3 s4 => 
  vIs h2 x0 1 (
  vC l G mX1_found (wsN mX1_found) d mc ms [.ref x0, .int 1, .int 1] h2 c3 s4 (xP P) (kR fun a5 h6 c7 s8 => 
  vI h6 a5 7 2 fun y9 =>
  (¬ y9 = 0 → 
    vR h6 a5 7 1 fun a11 =>
    vA .int h6 a11 x1 fun y12 =>
    vC l G mJ6_numberOfTrailingZeros (wsN mJ6_numberOfTrailingZeros) d mc ms [.int y12] h6 c7 s8 (xP P) (kI fun y13 h14 c15 s16 => 
    P (.inl (some (.int y13))) h14)
    ) ∧ (y9 = 0 → 
    P (.inl (some (.int ((-1))))) h6
    )))))
set_option maxHeartbeats 4000000 in
theorem A_X1_firstThing {l : Launch} {G : aG} {d mc ms : Nat} {P : aR → aH → Prop} {x0 : Nat} {x1 : Int32} {h : aH} (hl : l.stackTraces = false) (hv : V_X1_firstThing_0 l G d mc ms P x0 x1 h) : aC l G mX1_firstThing (wsN mX1_firstThing) d mc ms [.ref x0, .int x1] h P := by
  refine aC_ofF (M := mX1_firstThing) rfl pX1_firstThing (Nat.le_of_ble_eq_true rfl) hl ?_
  refine aw_eqv (lv2 := [(0, .ref x0), (1, .int x1)]) rfl rfl rfl rfl ?_
  unfold V_X1_firstThing_0 at hv
  refine aw_aload_n 0 (x := x0) dX1_firstThing_0 rfl rfl ?_
  refine aw_iload_n 1 dX1_firstThing_1 rfl rfl ?_
  obtain ⟨⟨fs, he⟩, hv⟩ := hv
  obtain ⟨d2, mc2, ms2, Q, hM, hd9, hc9, hs9, hv, hx⟩ := hv
  refine aw_callV (rest := []) hM he rfl rfl nX1_checkCell q1479 q1481 qs47 q119 q1482 dX1_firstThing_2 rfl hd9 (by decide) (Nat.le_of_ble_eq_true rfl) hc9 hs9 ?_ ?_
  rotate_left
  · exact fun E h2 q => aX_out (hx E h2 q) rfl hc9 hs9
  intro v9 h2 hq
  have hv := hv v9 h2 hq
  obtain ⟨rfl, hv⟩ := hv
  refine aw_eqv (pc2 := 5) (st2 := []) rfl rfl rfl rfl ?_
  revert hv hc9 hs9; generalize 0 + mc2 = c3; generalize 0 + ms2 = s4; intro hc9 hs9 hv
  refine aw_aload_n 0 (x := x0) dX1_firstThing_5 rfl rfl ?_
  refine aw_iconst (v := 1) dX1_firstThing_6 (by decide) ?_
  refine aw_iconst (v := 1) dX1_firstThing_7 (by decide) ?_
  obtain ⟨⟨fs, he⟩, hv⟩ := hv
  obtain ⟨d2, mc2, ms2, Q, hM, hd9, hc9, hs9, hv, hx⟩ := hv
  refine aw_callV (rest := []) hM he rfl rfl nX1_found q776 q778 qs25 q119 q779 dX1_firstThing_8 rfl hd9 (by decide) (Nat.le_of_ble_eq_true rfl) hc9 hs9 ?_ ?_
  rotate_left
  · exact fun E h2 q => aX_out (hx E h2 q) rfl hc9 hs9
  intro v9 h6 hq
  have hv := hv v9 h6 hq
  obtain ⟨a5, rfl, hv⟩ := hv
  refine aw_eqv (pc2 := 11) (st2 := [.ref a5]) rfl rfl rfl rfl ?_
  revert hv hc9 hs9; generalize c3 + mc2 = c7; generalize s4 + ms2 = s8; intro hc9 hs9 hv
  refine aw_astore_n (lv' := [(2, .ref a5), (0, .ref x0), (1, .int x1)]) dX1_firstThing_11 rfl (Nat.le_of_ble_eq_true rfl) rfl ?_
  refine aw_aload_n 0 (x := a5) dX1_firstThing_12 rfl rfl ?_
  obtain ⟨fs, y9, he, hx, hv⟩ := hv
  refine aw_getN (v := .int y9) he rfl in_X8 2 (by decide) q797 (Or.inl rfl) hx dX1_firstThing_13 ?_
  refine aw_if_ne 23 dX1_firstThing_16 (by decide) (fun c10 => ?_) (fun c10 => ?_)
  · have hv := hv.1 c10
    refine aw_aload_n 0 (x := a5) dX1_firstThing_23 rfl rfl ?_
    obtain ⟨fs, a11, he, hx, hv⟩ := hv
    refine aw_getN (v := .ref a11) he rfl in_X8 1 (by decide) q794 (Or.inl rfl) hx dX1_firstThing_24 ?_
    refine aw_iload_n 2 dX1_firstThing_27 rfl rfl ?_
    obtain ⟨n9, f9, he, hin, hv⟩ := hv
    refine aw_iald he hin dX1_firstThing_28 ?_
    revert hv; generalize f9 (x1).toNatClampNeg = y12; intro hv
    obtain ⟨d2, mc2, ms2, Q, hM, hd9, hc9, hs9, hv, hx⟩ := hv
    refine aw_callS (rest := []) hM nJ6_numberOfTrailingZeros q542 q543 q131 q544 dX1_firstThing_29 rfl hd9 (by decide) (Nat.le_of_ble_eq_true rfl) hc9 hs9 ?_ ?_
    rotate_left
    · exact fun E h2 q => aX_out (hx E h2 q) rfl hc9 hs9
    intro v9 h14 hq
    have hv := hv v9 h14 hq
    obtain ⟨y13, rfl, hv⟩ := hv
    refine aw_eqv (pc2 := 32) (st2 := [.int y13]) rfl rfl rfl rfl ?_
    revert hv hc9 hs9; generalize c7 + mc2 = c15; generalize s8 + ms2 = s16; intro hc9 hs9 hv
    exact aw_iret rfl dX1_firstThing_32 hv hc9 hs9
  · have hv := hv.2 c10
    refine aw_iconst (v := (-1)) dX1_firstThing_19 (by decide) ?_
    refine aw_goto 32 dX1_firstThing_20 (by decide) ?_
    exact aw_iret rfl dX1_firstThing_32 hv hc9 hs9
def V_X1_isNeeded_0 (l : Launch) (G : aG) (d mc ms : Nat) (P : aR → aH → Prop) (x0 : Nat) (x1 : Int32) (h : aH) : Prop :=
  vIs h x0 1 (
  vC l G mX1_checkEdge (wsN mX1_checkEdge) d mc ms [.ref x0, .int x1] h 0 0 (xP P) (kV fun h2 c3 s4 => 
  vR h2 x0 1 1 fun a5 =>
  vR h2 a5 3 0 fun a6 =>
  vA .int h2 a6 x1 fun y7 =>
  vC l G mX1_checkState (wsN mX1_checkState) d mc ms [.int (if y7 = ((-1)) then (0 : Int32) else 1)] h2 c3 s4 (xP P) (kV fun h10 c11 s12 => 
  vR h10 x0 1 1 fun a13 =>
  vI h10 a13 3 6 fun y14 =>
  vC l G mX1_has (wsN mX1_has) d mc ms [.int y14, .int x1] h10 c11 s12 (xP P) (kI fun y15 h16 c17 s18 => 
  vIs h16 x0 1 (
  vC l G mX1_solutionCount (wsN mX1_solutionCount) d mc ms [.ref x0] h16 c17 s18 (xP P) (kI fun y19 h20 c21 s22 => 
  vR h20 x0 1 1 fun a23 =>
  vIs h20 a23 3 (
  vC l G mX3_tell (wsN mX3_tell) d mc ms [.ref a23, .int x1, .int ((-1)), .int 0] h20 c21 s22 (xP P) (kI fun y24 h25 c26 s27 => 
  vIs h25 x0 1 (
  vC l G mX1_solutionCount (wsN mX1_solutionCount) d mc ms [.ref x0] h25 c26 s27 (xF) (kI fun y28 h29 c30 s31 => 
  vR h29 x0 1 1 fun a33 =>
  vIs h29 a33 3 (
  vC l G mX3_tell (wsN mX3_tell) d mc ms [.ref a33, .int x1, .int y7, .int y15] h29 c30 s31 (xP P) (kI fun y34 h35 c36 s37 => 
  vB (if y28 ≤ y19 then (0 : Int32) else 1) ∧ P (.inl (some (.int (if y28 ≤ y19 then (0 : Int32) else 1)))) h35))))))))))))
set_option maxHeartbeats 4000000 in
theorem A_X1_isNeeded {l : Launch} {G : aG} {d mc ms : Nat} {P : aR → aH → Prop} {x0 : Nat} {x1 : Int32} {h : aH} (hl : l.stackTraces = false) (hv : V_X1_isNeeded_0 l G d mc ms P x0 x1 h) : aC l G mX1_isNeeded (wsX mX1_isNeeded) d mc ms [.ref x0, .int x1] h P := by
  refine aC_ofH (M := mX1_isNeeded) (by decide) (Nat.le_of_ble_eq_true rfl) hl ?_
  refine aw_eqv (lv2 := [(0, .ref x0), (1, .int x1)]) rfl rfl rfl rfl ?_
  unfold V_X1_isNeeded_0 at hv
  refine aw_aload_n 0 (x := x0) dX1_isNeeded_0 rfl rfl ?_
  refine aw_iload_n 1 dX1_isNeeded_1 rfl rfl ?_
  obtain ⟨⟨fs, he⟩, hv⟩ := hv
  obtain ⟨d2, mc2, ms2, Q, hM, hd9, hc9, hs9, hv, hx⟩ := hv
  refine aw_callV (rest := []) hM he rfl rfl nX1_checkEdge q1368 q1370 qs40 q119 q1371 dX1_isNeeded_2 rfl hd9 (by decide) (Nat.le_of_ble_eq_true rfl) hc9 hs9 ?_ ?_
  rotate_left
  · exact fun E h2 q => aX_outH (hx E h2 q) (by decide) hc9 hs9
  intro v9 h2 hq
  have hv := hv v9 h2 hq
  obtain ⟨rfl, hv⟩ := hv
  refine aw_eqv (pc2 := 5) (st2 := []) rfl rfl rfl rfl ?_
  revert hv hc9 hs9; generalize 0 + mc2 = c3; generalize 0 + ms2 = s4; intro hc9 hs9 hv
  refine aw_aload_n 0 (x := x0) dX1_isNeeded_5 rfl rfl ?_
  obtain ⟨fs, a5, he, hx, hv⟩ := hv
  refine aw_get (v := .ref a5) he rfl in_X1 1 (by decide) q435 (Or.inl rfl) hx dX1_isNeeded_6 ?_
  obtain ⟨fs, a6, he, hx, hv⟩ := hv
  refine aw_getN (v := .ref a6) he rfl in_X3 0 (by decide) q322 (Or.inl rfl) hx dX1_isNeeded_9 ?_
  refine aw_iload_n 1 dX1_isNeeded_12 rfl rfl ?_
  obtain ⟨n9, f9, he, hin, hv⟩ := hv
  refine aw_iald he hin dX1_isNeeded_13 ?_
  revert hv; generalize f9 (x1).toNatClampNeg = y7; intro hv
  refine aw_istore_n (lv' := [(2, .int y7), (0, .ref x0), (1, .int x1)]) dX1_isNeeded_14 rfl (Nat.le_of_ble_eq_true rfl) rfl ?_
  refine aw_iload_n 0 dX1_isNeeded_15 rfl rfl ?_
  refine aw_iconst (v := (-1)) dX1_isNeeded_16 (by decide) ?_
  have J9 : AW l G mX1_isNeeded d mc ms P 25 [(2, .int y7), (0, .ref x0), (1, .int x1)] [.int (if y7 = ((-1)) then (0 : Int32) else 1)] h2 c3 s4 := by
    obtain ⟨d2, mc2, ms2, Q, hM, hd9, hc9, hs9, hv, hx⟩ := hv
    refine aw_callS (rest := []) hM nX1_checkState q1406 q1407 q119 q1408 dX1_isNeeded_25 rfl hd9 (by decide) (Nat.le_of_ble_eq_true rfl) hc9 hs9 ?_ ?_
    rotate_left
    · exact fun E h2 q => aX_outH (hx E h2 q) (by decide) hc9 hs9
    intro v9 h10 hq
    have hv := hv v9 h10 hq
    obtain ⟨rfl, hv⟩ := hv
    refine aw_eqv (pc2 := 28) (st2 := []) rfl rfl rfl rfl ?_
    revert hv hc9 hs9; generalize c3 + mc2 = c11; generalize s4 + ms2 = s12; intro hc9 hs9 hv
    refine aw_aload_n 1 (x := x0) dX1_isNeeded_28 rfl rfl ?_
    obtain ⟨fs, a13, he, hx, hv⟩ := hv
    refine aw_get (v := .ref a13) he rfl in_X1 1 (by decide) q435 (Or.inl rfl) hx dX1_isNeeded_29 ?_
    obtain ⟨fs, y14, he, hx, hv⟩ := hv
    refine aw_getN (v := .int y14) he rfl in_X3 6 (by decide) q337 (Or.inl rfl) hx dX1_isNeeded_32 ?_
    refine aw_iload_n 2 dX1_isNeeded_35 rfl rfl ?_
    obtain ⟨d2, mc2, ms2, Q, hM, hd9, hc9, hs9, hv, hx⟩ := hv
    refine aw_callS (rest := []) hM nX1_has q582 q298 q119 q299 dX1_isNeeded_36 rfl hd9 (by decide) (Nat.le_of_ble_eq_true rfl) hc9 hs9 ?_ ?_
    rotate_left
    · exact fun E h2 q => aX_outH (hx E h2 q) (by decide) hc9 hs9
    intro v9 h16 hq
    have hv := hv v9 h16 hq
    obtain ⟨y15, rfl, hv⟩ := hv
    refine aw_eqv (pc2 := 39) (st2 := [.int y15]) rfl rfl rfl rfl ?_
    revert hv hc9 hs9; generalize c11 + mc2 = c17; generalize s12 + ms2 = s18; intro hc9 hs9 hv
    refine aw_istore_n (lv' := [(3, .int y15), (2, .int y7), (0, .ref x0), (1, .int x1)]) dX1_isNeeded_39 rfl (Nat.le_of_ble_eq_true rfl) rfl ?_
    refine aw_aload_n 2 (x := x0) dX1_isNeeded_40 rfl rfl ?_
    obtain ⟨⟨fs, he⟩, hv⟩ := hv
    obtain ⟨d2, mc2, ms2, Q, hM, hd9, hc9, hs9, hv, hx⟩ := hv
    refine aw_callV (rest := []) hM he rfl rfl nX1_solutionCount q1646 q773 q774 q119 q775 dX1_isNeeded_41 rfl hd9 (by decide) (Nat.le_of_ble_eq_true rfl) hc9 hs9 ?_ ?_
    rotate_left
    · exact fun E h2 q => aX_outH (hx E h2 q) (by decide) hc9 hs9
    intro v9 h20 hq
    have hv := hv v9 h20 hq
    obtain ⟨y19, rfl, hv⟩ := hv
    refine aw_eqv (pc2 := 44) (st2 := [.int y19]) rfl rfl rfl rfl ?_
    revert hv hc9 hs9; generalize c17 + mc2 = c21; generalize s18 + ms2 = s22; intro hc9 hs9 hv
    refine aw_istore (lv' := [(4, .int y19), (3, .int y15), (2, .int y7), (0, .ref x0), (1, .int x1)]) dX1_isNeeded_44 (Nat.le_of_ble_eq_true rfl) rfl ?_
    refine aw_aload_n 3 (x := x0) dX1_isNeeded_46 rfl rfl ?_
    obtain ⟨fs, a23, he, hx, hv⟩ := hv
    refine aw_get (v := .ref a23) he rfl in_X1 1 (by decide) q435 (Or.inl rfl) hx dX1_isNeeded_47 ?_
    refine aw_iload_n 4 dX1_isNeeded_50 rfl rfl ?_
    refine aw_iconst (v := (-1)) dX1_isNeeded_51 (by decide) ?_
    refine aw_iconst (v := 0) dX1_isNeeded_52 (by decide) ?_
    obtain ⟨⟨fs, he⟩, hv⟩ := hv
    obtain ⟨d2, mc2, ms2, Q, hM, hd9, hc9, hs9, hv, hx⟩ := hv
    refine aw_callV (rest := []) hM he rfl rfl nX3_tell q558 q559 q560 q121 q561 dX1_isNeeded_53 rfl hd9 (by decide) (Nat.le_of_ble_eq_true rfl) hc9 hs9 ?_ ?_
    rotate_left
    · exact fun E h2 q => aX_outH (hx E h2 q) (by decide) hc9 hs9
    intro v9 h25 hq
    have hv := hv v9 h25 hq
    obtain ⟨y24, rfl, hv⟩ := hv
    refine aw_eqv (pc2 := 56) (st2 := [.int y24]) rfl rfl rfl rfl ?_
    revert hv hc9 hs9; generalize c21 + mc2 = c26; generalize s22 + ms2 = s27; intro hc9 hs9 hv
    refine aw_istore (lv' := [(5, .int y24), (4, .int y19), (3, .int y15), (2, .int y7), (0, .ref x0), (1, .int x1)]) dX1_isNeeded_56 (Nat.le_of_ble_eq_true rfl) rfl ?_
    refine aw_aload_n 4 (x := x0) dX1_isNeeded_58 rfl rfl ?_
    obtain ⟨⟨fs, he⟩, hv⟩ := hv
    obtain ⟨d2, mc2, ms2, Q, hM, hd9, hc9, hs9, hv, hx⟩ := hv
    refine aw_callV (rest := []) hM he rfl rfl nX1_solutionCount q1646 q773 q774 q119 q775 dX1_isNeeded_59 rfl hd9 (by decide) (Nat.le_of_ble_eq_true rfl) hc9 hs9 ?_ ?_
    rotate_left
    · exact fun E h2 q => (hx E h2 q).elim
    intro v9 h29 hq
    have hv := hv v9 h29 hq
    obtain ⟨y28, rfl, hv⟩ := hv
    refine aw_eqv (pc2 := 62) (st2 := [.int y28]) rfl rfl rfl rfl ?_
    revert hv hc9 hs9; generalize c26 + mc2 = c30; generalize s27 + ms2 = s31; intro hc9 hs9 hv
    refine aw_iload 1 dX1_isNeeded_62 rfl ?_
    have J9 : AW l G mX1_isNeeded d mc ms P 72 [(5, .int y24), (4, .int y19), (3, .int y15), (2, .int y7), (0, .ref x0), (1, .int x1)] [.int (if y28 ≤ y19 then (0 : Int32) else 1)] h29 c30 s31 := by
      refine aw_istore (lv' := [(6, .int (if y28 ≤ y19 then (0 : Int32) else 1)), (5, .int y24), (4, .int y19), (3, .int y15), (2, .int y7), (0, .ref x0), (1, .int x1)]) dX1_isNeeded_72 (Nat.le_of_ble_eq_true rfl) rfl ?_
      refine aw_aload_n 5 (x := x0) dX1_isNeeded_74 rfl rfl ?_
      obtain ⟨fs, a33, he, hx, hv⟩ := hv
      refine aw_get (v := .ref a33) he rfl in_X1 1 (by decide) q435 (Or.inl rfl) hx dX1_isNeeded_75 ?_
      refine aw_iload_n 6 dX1_isNeeded_78 rfl rfl ?_
      refine aw_iload_n 4 dX1_isNeeded_79 rfl rfl ?_
      refine aw_iload_n 3 dX1_isNeeded_80 rfl rfl ?_
      obtain ⟨⟨fs, he⟩, hv⟩ := hv
      obtain ⟨d2, mc2, ms2, Q, hM, hd9, hc9, hs9, hv, hx⟩ := hv
      refine aw_callV (rest := []) hM he rfl rfl nX3_tell q558 q559 q560 q121 q561 dX1_isNeeded_81 rfl hd9 (by decide) (Nat.le_of_ble_eq_true rfl) hc9 hs9 ?_ ?_
      rotate_left
      · exact fun E h2 q => aX_outH (hx E h2 q) (by decide) hc9 hs9
      intro v9 h35 hq
      have hv := hv v9 h35 hq
      obtain ⟨y34, rfl, hv⟩ := hv
      refine aw_eqv (pc2 := 84) (st2 := [.int y34]) rfl rfl rfl rfl ?_
      revert hv hc9 hs9; generalize c30 + mc2 = c36; generalize s31 + ms2 = s37; intro hc9 hs9 hv
      refine aw_istore (lv' := [(7, .int y34), (6, .int (if y28 ≤ y19 then (0 : Int32) else 1)), (5, .int y24), (4, .int y19), (3, .int y15), (2, .int y7), (0, .ref x0), (1, .int x1)]) dX1_isNeeded_84 (Nat.le_of_ble_eq_true rfl) rfl ?_
      refine aw_iload 1 dX1_isNeeded_86 rfl ?_
      obtain ⟨z38, hv⟩ := hv
      exact aw_zret rfl z38.nar dX1_isNeeded_88 hv hc9 hs9
    refine aw_icmp_le 71 dX1_isNeeded_64 (by decide) (fun c32 => ?_) (fun c32 => ?_)
    · have J9 := aw_ifT c32 J9
      refine aw_iconst (v := 0) dX1_isNeeded_71 (by decide) ?_
      exact J9
    · have J9 := aw_ifF c32 J9
      refine aw_iconst (v := 1) dX1_isNeeded_67 (by decide) ?_
      refine aw_goto 72 dX1_isNeeded_68 (by decide) ?_
      exact J9
  refine aw_icmp_eq 24 dX1_isNeeded_17 (by decide) (fun c8 => ?_) (fun c8 => ?_)
  · have J9 := aw_ifT c8 J9
    refine aw_iconst (v := 0) dX1_isNeeded_24 (by decide) ?_
    exact J9
  · have J9 := aw_ifF c8 J9
    refine aw_iconst (v := 1) dX1_isNeeded_20 (by decide) ?_
    refine aw_goto 25 dX1_isNeeded_21 (by decide) ?_
    exact J9
def T_X1_appendText_5 (l : Launch) (G : aG) (d mc ms : Nat) (P : aR → aH → Prop) (x0 : Nat) (x1 : Int64) (x3 : Int32) (x4 : Int64) (h : aH) (c s : Nat) : Prop := c ≤ mc → s ≤ ms → AW l G mX1_appendText d mc ms P 5 [(0, .ref x0), (1, .long x1), (3, .int x3), (4, .long x4)] [] h c s
def T_X1_appendText_52 (l : Launch) (G : aG) (d mc ms : Nat) (P : aR → aH → Prop) (x0 : Nat) (x1 : Int64) (x3 : Int32) (x4 : Int64) (h : aH) (c s : Nat) : Prop := c ≤ mc → s ≤ ms → AW l G mX1_appendText d mc ms P 52 [(0, .ref x0), (1, .long x1), (3, .int x3), (4, .long x4)] [] h c s
def T_X1_appendText_98 (l : Launch) (G : aG) (d mc ms : Nat) (P : aR → aH → Prop) (x0 : Nat) (x1 : Int64) (x6 : Int32) (h : aH) (c s : Nat) : Prop := c ≤ mc → s ≤ ms → AW l G mX1_appendText d mc ms P 98 [(0, .ref x0), (1, .long x1), (6, .int x6)] [] h c s
def V_X1_appendText_5 (l : Launch) (G : aG) (d mc ms : Nat) (P : aR → aH → Prop) (x0 : Nat) (x1 : Int64) (x3 : Int32) (x4 : Int64) (h : aH) (c s : Nat) : Prop :=
  (8 ≤ x3 → 
    T_X1_appendText_52 l G d mc ms P x0 x1 x3 x4 h c s
    ) ∧ (¬ 8 ≤ x3 → 
    ((lg_cmp (x4 &&& (255 : Int64)) 0) = 0 → 
      T_X1_appendText_52 l G d mc ms P x0 x1 x3 x4 h c s
      ) ∧ (¬ (lg_cmp (x4 &&& (255 : Int64)) 0) = 0 → 
      vC l G mX1_isIn (wsN mX1_isIn) d mc ms [.int ((x4 &&& (255 : Int64)).toInt32), .int 33, .int 126] h c s (xP P) (kI fun y3 h4 c5 s6 => 
      vC l G mX1_checkArgument (wsN mX1_checkArgument) d mc ms [.int y3] h4 c5 s6 (xP P) (kV fun h8 c9 s10 => 
      ∀ v11 : Int64, v11 = ((x4.toUInt64 >>> ((8 : Int32).toInt64.toUInt64 &&& Int64.toUInt64 63)).toInt64) →
      T_X1_appendText_5 l G d mc ms P x0 x1 (x3 + 1) v11 h8 c9 s10))
      )
    )
set_option maxHeartbeats 4000000 in
theorem A_X1_appendText_5 {l : Launch} {G : aG} {d mc ms : Nat} {P : aR → aH → Prop} {x0 : Nat} {x1 : Int64} {x3 : Int32} {x4 : Int64} {h : aH} {c s : Nat} (hl : l.stackTraces = false) (hv : V_X1_appendText_5 l G d mc ms P x0 x1 x3 x4 h c s) : T_X1_appendText_5 l G d mc ms P x0 x1 x3 x4 h c s := by
  intro hc hs
  unfold V_X1_appendText_5 at hv
  refine aw_iload_n 2 dX1_appendText_5 rfl rfl ?_
  refine aw_bipush (v := 8) dX1_appendText_6 (by decide) ?_
  refine aw_icmp_ge 52 dX1_appendText_8 (by decide) (fun c1 => ?_) (fun c1 => ?_)
  · have hv := hv.1 c1
    exact hv hc hs
  · have hv := hv.2 c1
    refine aw_lload 3 dX1_appendText_11 rfl ?_
    refine aw_ldc2 (v := 255) q1654 dX1_appendText_13 ?_
    refine aw_land dX1_appendText_16 ?_
    refine aw_lconst (v := 0) dX1_appendText_17 (by decide) ?_
    refine aw_lcmp dX1_appendText_18 ?_
    refine aw_if_eq 52 dX1_appendText_19 (by decide) (fun c2 => ?_) (fun c2 => ?_)
    · have hv := hv.1 c2
      exact hv hc hs
    · have hv := hv.2 c2
      refine aw_lload 3 dX1_appendText_22 rfl ?_
      refine aw_ldc2 (v := 255) q1654 dX1_appendText_24 ?_
      refine aw_land dX1_appendText_27 ?_
      refine aw_l2i dX1_appendText_28 ?_
      refine aw_bipush (v := 33) dX1_appendText_29 (by decide) ?_
      refine aw_bipush (v := 126) dX1_appendText_31 (by decide) ?_
      obtain ⟨d2, mc2, ms2, Q, hM, hd9, hc9, hs9, hv, hx⟩ := hv
      refine aw_callS (rest := []) hM nX1_isIn q1338 q1239 q119 q1240 dX1_appendText_33 rfl hd9 (by decide) (Nat.le_of_ble_eq_true rfl) hc9 hs9 ?_ ?_
      rotate_left
      · exact fun E h2 q => aX_out (hx E h2 q) rfl hc9 hs9
      intro v9 h4 hq
      have hv := hv v9 h4 hq
      obtain ⟨y3, rfl, hv⟩ := hv
      refine aw_eqv (pc2 := 36) (st2 := [.int y3]) rfl rfl rfl rfl ?_
      revert hv hc9 hs9; generalize c + mc2 = c5; generalize s + ms2 = s6; intro hc9 hs9 hv
      obtain ⟨d2, mc2, ms2, Q, hM, hd9, hc9, hs9, hv, hx⟩ := hv
      refine aw_callS (rest := []) hM nX1_checkArgument q1339 q1340 q119 q1341 dX1_appendText_36 rfl hd9 (by decide) (Nat.le_of_ble_eq_true rfl) hc9 hs9 ?_ ?_
      rotate_left
      · exact fun E h2 q => aX_out (hx E h2 q) rfl hc9 hs9
      intro v9 h8 hq
      have hv := hv v9 h8 hq
      obtain ⟨rfl, hv⟩ := hv
      refine aw_eqv (pc2 := 39) (st2 := []) rfl rfl rfl rfl ?_
      revert hv hc9 hs9; generalize c5 + mc2 = c9; generalize s6 + ms2 = s10; intro hc9 hs9 hv
      refine aw_iinc 2 (v := x3 + 1) (lv' := [(3, .int (x3 + 1)), (0, .ref x0), (1, .long x1), (4, .long x4)]) dX1_appendText_39 rfl rfl (Nat.le_of_ble_eq_true rfl) rfl ?_
      refine aw_lload 3 dX1_appendText_42 rfl ?_
      refine aw_bipush (v := 8) dX1_appendText_44 (by decide) ?_
      refine aw_lushr dX1_appendText_46 ?_
      refine aw_topl (fun v11 ev11 => ?_)
      have hv := hv v11 ev11
      refine aw_lstore (lv' := [(4, .long v11), (3, .int (x3 + 1)), (0, .ref x0), (1, .long x1)]) dX1_appendText_47 (Nat.le_of_ble_eq_true rfl) rfl ?_
      refine aw_goto 5 dX1_appendText_49 (by decide) ?_
      refine aw_sub [2, 3, 1, 0] rfl ?_
      exact hv hc9 hs9
def V_X1_appendText_52 (l : Launch) (G : aG) (d mc ms : Nat) (P : aR → aH → Prop) (x0 : Nat) (x1 : Int64) (x3 : Int32) (x4 : Int64) (h : aH) (c s : Nat) : Prop :=
  (x3 ≤ 0 → 
    vC l G mX1_checkArgument (wsN mX1_checkArgument) d mc ms [.int 0] h c s (xP P) (kV fun h14 c15 s16 => 
    vR h14 x0 1 7 fun a17 =>
    vIs h14 a17 10 (
    vC l G mJ8_length (wsN mJ8_length) d mc ms [.ref a17] h14 c15 s16 (xP P) (kI fun y18 h19 c20 s21 => 
    vC l G mX1_checkState (wsN mX1_checkState) d mc ms [.int (if 80 < (y18 + x3) then (0 : Int32) else 1)] h19 c20 s21 (xP P) (kV fun h24 c25 s26 => 
    T_X1_appendText_98 l G d mc ms P x0 x1 (x3 - (1 : Int32)) h24 c25 s26))))
    ) ∧ (¬ x3 ≤ 0 → 
    vC l G mX1_checkArgument (wsN mX1_checkArgument) d mc ms [.int (if (lg_cmp x4 0) = 0 then (1 : Int32) else 0)] h c s (xP P) (kV fun h29 c30 s31 => 
    vR h29 x0 1 7 fun a32 =>
    vIs h29 a32 10 (
    vC l G mJ8_length (wsN mJ8_length) d mc ms [.ref a32] h29 c30 s31 (xP P) (kI fun y33 h34 c35 s36 => 
    vC l G mX1_checkState (wsN mX1_checkState) d mc ms [.int (if 80 < (y33 + x3) then (0 : Int32) else 1)] h34 c35 s36 (xP P) (kV fun h39 c40 s41 => 
    T_X1_appendText_98 l G d mc ms P x0 x1 (x3 - (1 : Int32)) h39 c40 s41))))
    )
set_option maxHeartbeats 4000000 in
theorem A_X1_appendText_52 {l : Launch} {G : aG} {d mc ms : Nat} {P : aR → aH → Prop} {x0 : Nat} {x1 : Int64} {x3 : Int32} {x4 : Int64} {h : aH} {c s : Nat} (hl : l.stackTraces = false) (hv : V_X1_appendText_52 l G d mc ms P x0 x1 x3 x4 h c s) : T_X1_appendText_52 l G d mc ms P x0 x1 x3 x4 h c s := by
  intro hc hs
  unfold V_X1_appendText_52 at hv
  refine aw_iload_n 2 dX1_appendText_52 rfl rfl ?_
  refine aw_if_le 67 dX1_appendText_53 (by decide) (fun c12 => ?_) (fun c12 => ?_)
  · have hv := hv.1 c12
    refine aw_iconst (v := 0) dX1_appendText_67 (by decide) ?_
    obtain ⟨d2, mc2, ms2, Q, hM, hd9, hc9, hs9, hv, hx⟩ := hv
    refine aw_callS (rest := []) hM nX1_checkArgument q1339 q1340 q119 q1341 dX1_appendText_68 rfl hd9 (by decide) (Nat.le_of_ble_eq_true rfl) hc9 hs9 ?_ ?_
    rotate_left
    · exact fun E h2 q => aX_out (hx E h2 q) rfl hc9 hs9
    intro v9 h14 hq
    have hv := hv v9 h14 hq
    obtain ⟨rfl, hv⟩ := hv
    refine aw_eqv (pc2 := 71) (st2 := []) rfl rfl rfl rfl ?_
    revert hv hc9 hs9; generalize c + mc2 = c15; generalize s + ms2 = s16; intro hc9 hs9 hv
    refine aw_aload_n 0 (x := x0) dX1_appendText_71 rfl rfl ?_
    obtain ⟨fs, a17, he, hx, hv⟩ := hv
    refine aw_get (v := .ref a17) he rfl in_X1 7 (by decide) q442 (Or.inl rfl) hx dX1_appendText_72 ?_
    obtain ⟨⟨fs, he⟩, hv⟩ := hv
    obtain ⟨d2, mc2, ms2, Q, hM, hd9, hc9, hs9, hv, hx⟩ := hv
    refine aw_callV (rest := []) hM he rfl rfl nJ8_length q859 q860 q861 q134 q862 dX1_appendText_75 rfl hd9 (by decide) (Nat.le_of_ble_eq_true rfl) hc9 hs9 ?_ ?_
    rotate_left
    · exact fun E h2 q => aX_out (hx E h2 q) rfl hc9 hs9
    intro v9 h19 hq
    have hv := hv v9 h19 hq
    obtain ⟨y18, rfl, hv⟩ := hv
    refine aw_eqv (pc2 := 78) (st2 := [.int y18]) rfl rfl rfl rfl ?_
    revert hv hc9 hs9; generalize c15 + mc2 = c20; generalize s16 + ms2 = s21; intro hc9 hs9 hv
    refine aw_iload_n 2 dX1_appendText_78 rfl rfl ?_
    refine aw_iadd dX1_appendText_79 ?_
    refine aw_bipush (v := 80) dX1_appendText_80 (by decide) ?_
    have J9 : AW l G mX1_appendText d mc ms P 90 [(0, .ref x0), (1, .long x1), (3, .int x3), (4, .long x4)] [.int (if 80 < (y18 + x3) then (0 : Int32) else 1)] h19 c20 s21 := by
      obtain ⟨d2, mc2, ms2, Q, hM, hd9, hc9, hs9, hv, hx⟩ := hv
      refine aw_callS (rest := []) hM nX1_checkState q1406 q1407 q119 q1408 dX1_appendText_90 rfl hd9 (by decide) (Nat.le_of_ble_eq_true rfl) hc9 hs9 ?_ ?_
      rotate_left
      · exact fun E h2 q => aX_out (hx E h2 q) rfl hc9 hs9
      intro v9 h24 hq
      have hv := hv v9 h24 hq
      obtain ⟨rfl, hv⟩ := hv
      refine aw_eqv (pc2 := 93) (st2 := []) rfl rfl rfl rfl ?_
      revert hv hc9 hs9; generalize c20 + mc2 = c25; generalize s21 + ms2 = s26; intro hc9 hs9 hv
      refine aw_iload_n 2 dX1_appendText_93 rfl rfl ?_
      refine aw_iconst (v := 1) dX1_appendText_94 (by decide) ?_
      refine aw_isub dX1_appendText_95 ?_
      refine aw_istore (lv' := [(6, .int (x3 - (1 : Int32))), (0, .ref x0), (1, .long x1), (3, .int x3), (4, .long x4)]) dX1_appendText_96 (Nat.le_of_ble_eq_true rfl) rfl ?_
      refine aw_sub [1, 2, 0] rfl ?_
      exact hv hc9 hs9
    refine aw_icmp_gt 89 dX1_appendText_82 (by decide) (fun c22 => ?_) (fun c22 => ?_)
    · have J9 := aw_ifT c22 J9
      refine aw_iconst (v := 0) dX1_appendText_89 (by decide) ?_
      exact J9
    · have J9 := aw_ifF c22 J9
      refine aw_iconst (v := 1) dX1_appendText_85 (by decide) ?_
      refine aw_goto 90 dX1_appendText_86 (by decide) ?_
      exact J9
  · have hv := hv.2 c12
    refine aw_lload 3 dX1_appendText_56 rfl ?_
    refine aw_lconst (v := 0) dX1_appendText_58 (by decide) ?_
    refine aw_lcmp dX1_appendText_59 ?_
    have J9 : AW l G mX1_appendText d mc ms P 68 [(0, .ref x0), (1, .long x1), (3, .int x3), (4, .long x4)] [.int (if (lg_cmp x4 0) = 0 then (1 : Int32) else 0)] h c s := by
      obtain ⟨d2, mc2, ms2, Q, hM, hd9, hc9, hs9, hv, hx⟩ := hv
      refine aw_callS (rest := []) hM nX1_checkArgument q1339 q1340 q119 q1341 dX1_appendText_68 rfl hd9 (by decide) (Nat.le_of_ble_eq_true rfl) hc9 hs9 ?_ ?_
      rotate_left
      · exact fun E h2 q => aX_out (hx E h2 q) rfl hc9 hs9
      intro v9 h29 hq
      have hv := hv v9 h29 hq
      obtain ⟨rfl, hv⟩ := hv
      refine aw_eqv (pc2 := 71) (st2 := []) rfl rfl rfl rfl ?_
      revert hv hc9 hs9; generalize c + mc2 = c30; generalize s + ms2 = s31; intro hc9 hs9 hv
      refine aw_aload_n 0 (x := x0) dX1_appendText_71 rfl rfl ?_
      obtain ⟨fs, a32, he, hx, hv⟩ := hv
      refine aw_get (v := .ref a32) he rfl in_X1 7 (by decide) q442 (Or.inl rfl) hx dX1_appendText_72 ?_
      obtain ⟨⟨fs, he⟩, hv⟩ := hv
      obtain ⟨d2, mc2, ms2, Q, hM, hd9, hc9, hs9, hv, hx⟩ := hv
      refine aw_callV (rest := []) hM he rfl rfl nJ8_length q859 q860 q861 q134 q862 dX1_appendText_75 rfl hd9 (by decide) (Nat.le_of_ble_eq_true rfl) hc9 hs9 ?_ ?_
      rotate_left
      · exact fun E h2 q => aX_out (hx E h2 q) rfl hc9 hs9
      intro v9 h34 hq
      have hv := hv v9 h34 hq
      obtain ⟨y33, rfl, hv⟩ := hv
      refine aw_eqv (pc2 := 78) (st2 := [.int y33]) rfl rfl rfl rfl ?_
      revert hv hc9 hs9; generalize c30 + mc2 = c35; generalize s31 + ms2 = s36; intro hc9 hs9 hv
      refine aw_iload_n 2 dX1_appendText_78 rfl rfl ?_
      refine aw_iadd dX1_appendText_79 ?_
      refine aw_bipush (v := 80) dX1_appendText_80 (by decide) ?_
      have J9 : AW l G mX1_appendText d mc ms P 90 [(0, .ref x0), (1, .long x1), (3, .int x3), (4, .long x4)] [.int (if 80 < (y33 + x3) then (0 : Int32) else 1)] h34 c35 s36 := by
        obtain ⟨d2, mc2, ms2, Q, hM, hd9, hc9, hs9, hv, hx⟩ := hv
        refine aw_callS (rest := []) hM nX1_checkState q1406 q1407 q119 q1408 dX1_appendText_90 rfl hd9 (by decide) (Nat.le_of_ble_eq_true rfl) hc9 hs9 ?_ ?_
        rotate_left
        · exact fun E h2 q => aX_out (hx E h2 q) rfl hc9 hs9
        intro v9 h39 hq
        have hv := hv v9 h39 hq
        obtain ⟨rfl, hv⟩ := hv
        refine aw_eqv (pc2 := 93) (st2 := []) rfl rfl rfl rfl ?_
        revert hv hc9 hs9; generalize c35 + mc2 = c40; generalize s36 + ms2 = s41; intro hc9 hs9 hv
        refine aw_iload_n 2 dX1_appendText_93 rfl rfl ?_
        refine aw_iconst (v := 1) dX1_appendText_94 (by decide) ?_
        refine aw_isub dX1_appendText_95 ?_
        refine aw_istore (lv' := [(6, .int (x3 - (1 : Int32))), (0, .ref x0), (1, .long x1), (3, .int x3), (4, .long x4)]) dX1_appendText_96 (Nat.le_of_ble_eq_true rfl) rfl ?_
        refine aw_sub [1, 2, 0] rfl ?_
        exact hv hc9 hs9
      refine aw_icmp_gt 89 dX1_appendText_82 (by decide) (fun c37 => ?_) (fun c37 => ?_)
      · have J9 := aw_ifT c37 J9
        refine aw_iconst (v := 0) dX1_appendText_89 (by decide) ?_
        exact J9
      · have J9 := aw_ifF c37 J9
        refine aw_iconst (v := 1) dX1_appendText_85 (by decide) ?_
        refine aw_goto 90 dX1_appendText_86 (by decide) ?_
        exact J9
    refine aw_if_ne 67 dX1_appendText_60 (by decide) (fun c27 => ?_) (fun c27 => ?_)
    · have J9 := aw_ifF c27 J9
      refine aw_iconst (v := 0) dX1_appendText_67 (by decide) ?_
      exact J9
    · have J9 := aw_ifT c27 J9
      refine aw_iconst (v := 1) dX1_appendText_63 (by decide) ?_
      refine aw_goto 68 dX1_appendText_64 (by decide) ?_
      exact J9
def V_X1_appendText_98 (l : Launch) (G : aG) (d mc ms : Nat) (P : aR → aH → Prop) (x0 : Nat) (x1 : Int64) (x6 : Int32) (h : aH) (c s : Nat) : Prop :=
  (x6 < 0 → 
    vR h x0 1 7 fun a43 =>
    vIs h a43 10 (
    vC l G mJ8_length (wsN mJ8_length) d mc ms [.ref a43] h c s (xP P) (kI fun y44 h45 c46 s47 => 
    P (.inl (some (.int y44))) h45))
    ) ∧ (¬ x6 < 0 → 
    vR h x0 1 7 fun a48 =>
    vIs h a48 10 (
    vC l G mJ8_append_3 (wsN mJ8_append_3) d mc ms [.ref a48, .int (((((x1 >>> (((8 : Int32) * x6).toInt64 &&& 63)) &&& (255 : Int64)).toInt32).toUInt32 % 65536).toInt32)] h c s (xP P) (kR fun a49 h50 c51 s52 => 
    T_X1_appendText_98 l G d mc ms P x0 x1 (x6 + (-1)) h50 c51 s52))
    )
set_option maxHeartbeats 4000000 in
theorem A_X1_appendText_98 {l : Launch} {G : aG} {d mc ms : Nat} {P : aR → aH → Prop} {x0 : Nat} {x1 : Int64} {x6 : Int32} {h : aH} {c s : Nat} (hl : l.stackTraces = false) (hv : V_X1_appendText_98 l G d mc ms P x0 x1 x6 h c s) : T_X1_appendText_98 l G d mc ms P x0 x1 x6 h c s := by
  intro hc hs
  unfold V_X1_appendText_98 at hv
  refine aw_iload 2 dX1_appendText_98 rfl ?_
  refine aw_if_lt 130 dX1_appendText_100 (by decide) (fun c42 => ?_) (fun c42 => ?_)
  · have hv := hv.1 c42
    refine aw_aload_n 0 (x := x0) dX1_appendText_130 rfl rfl ?_
    obtain ⟨fs, a43, he, hx, hv⟩ := hv
    refine aw_get (v := .ref a43) he rfl in_X1 7 (by decide) q442 (Or.inl rfl) hx dX1_appendText_131 ?_
    obtain ⟨⟨fs, he⟩, hv⟩ := hv
    obtain ⟨d2, mc2, ms2, Q, hM, hd9, hc9, hs9, hv, hx⟩ := hv
    refine aw_callV (rest := []) hM he rfl rfl nJ8_length q859 q860 q861 q134 q862 dX1_appendText_134 rfl hd9 (by decide) (Nat.le_of_ble_eq_true rfl) hc9 hs9 ?_ ?_
    rotate_left
    · exact fun E h2 q => aX_out (hx E h2 q) rfl hc9 hs9
    intro v9 h45 hq
    have hv := hv v9 h45 hq
    obtain ⟨y44, rfl, hv⟩ := hv
    refine aw_eqv (pc2 := 137) (st2 := [.int y44]) rfl rfl rfl rfl ?_
    revert hv hc9 hs9; generalize c + mc2 = c46; generalize s + ms2 = s47; intro hc9 hs9 hv
    exact aw_iret rfl dX1_appendText_137 hv hc9 hs9
  · have hv := hv.2 c42
    refine aw_aload_n 0 (x := x0) dX1_appendText_103 rfl rfl ?_
    obtain ⟨fs, a48, he, hx, hv⟩ := hv
    refine aw_get (v := .ref a48) he rfl in_X1 7 (by decide) q442 (Or.inl rfl) hx dX1_appendText_104 ?_
    refine aw_lload_n 1 dX1_appendText_107 rfl rfl ?_
    refine aw_bipush (v := 8) dX1_appendText_108 (by decide) ?_
    refine aw_iload 2 dX1_appendText_110 rfl ?_
    refine aw_imul dX1_appendText_112 ?_
    refine aw_lshr dX1_appendText_113 ?_
    refine aw_ldc2 (v := 255) q1654 dX1_appendText_114 ?_
    refine aw_land dX1_appendText_117 ?_
    refine aw_l2i dX1_appendText_118 ?_
    refine aw_i2c dX1_appendText_119 ?_
    obtain ⟨⟨fs, he⟩, hv⟩ := hv
    obtain ⟨d2, mc2, ms2, Q, hM, hd9, hc9, hs9, hv, hx⟩ := hv
    refine aw_callV (rest := []) hM he rfl rfl nJ8_append_3 q1655 q1656 q1657 q134 q1658 dX1_appendText_120 rfl hd9 (by decide) (Nat.le_of_ble_eq_true rfl) hc9 hs9 ?_ ?_
    rotate_left
    · exact fun E h2 q => aX_out (hx E h2 q) rfl hc9 hs9
    intro v9 h50 hq
    have hv := hv v9 h50 hq
    obtain ⟨a49, rfl, hv⟩ := hv
    refine aw_eqv (pc2 := 123) (st2 := [.ref a49]) rfl rfl rfl rfl ?_
    revert hv hc9 hs9; generalize c + mc2 = c51; generalize s + ms2 = s52; intro hc9 hs9 hv
    refine aw_pop dX1_appendText_123 rfl ?_
    refine aw_iinc 2 (v := x6 + (-1)) (lv' := [(6, .int (x6 + (-1))), (0, .ref x0), (1, .long x1)]) dX1_appendText_124 rfl rfl (Nat.le_of_ble_eq_true rfl) rfl ?_
    refine aw_goto 98 dX1_appendText_127 (by decide) ?_
    refine aw_sub [1, 2, 0] rfl ?_
    exact hv hc9 hs9
def V_X1_appendText_0 (l : Launch) (G : aG) (d mc ms : Nat) (P : aR → aH → Prop) (x0 : Nat) (x1 : Int64) (h : aH) : Prop :=
  T_X1_appendText_5 l G d mc ms P x0 x1 0 x1 h 0 0
set_option maxHeartbeats 4000000 in
theorem A_X1_appendText {l : Launch} {G : aG} {d mc ms : Nat} {P : aR → aH → Prop} {x0 : Nat} {x1 : Int64} {h : aH} (hl : l.stackTraces = false) (hv : V_X1_appendText_0 l G d mc ms P x0 x1 h) : aC l G mX1_appendText (wsN mX1_appendText) d mc ms [.ref x0, .long x1] h P := by
  refine aC_ofF (M := mX1_appendText) rfl pX1_appendText (Nat.le_of_ble_eq_true rfl) hl ?_
  refine aw_eqv (lv2 := [(0, .ref x0), (1, .long x1)]) rfl rfl rfl rfl ?_
  unfold V_X1_appendText_0 at hv
  refine aw_iconst (v := 0) dX1_appendText_0 (by decide) ?_
  refine aw_istore_n (lv' := [(3, .int 0), (0, .ref x0), (1, .long x1)]) dX1_appendText_1 rfl (Nat.le_of_ble_eq_true rfl) rfl ?_
  refine aw_lload_n 2 dX1_appendText_2 rfl rfl ?_
  refine aw_lstore (lv' := [(4, .long x1), (3, .int 0), (0, .ref x0), (1, .long x1)]) dX1_appendText_3 (Nat.le_of_ble_eq_true rfl) rfl ?_
  refine aw_sub [2, 3, 1, 0] rfl ?_
  exact hv (Nat.zero_le _) (Nat.zero_le _)
def T_X1_execute_24 (l : Launch) (G : aG) (d mc ms : Nat) (P : aR → aH → Prop) (x0 : Nat) (x1 : Nat) (x2 : Int32) (xs0 : Int32) (h : aH) (c s : Nat) : Prop := c ≤ mc → s ≤ ms → AW l G mX1_execute d mc ms P 24 [(0, .ref x0), (1, .ref x1), (2, .int x2)] [.int xs0] h c s
def T_X1_execute_50 (l : Launch) (G : aG) (d mc ms : Nat) (P : aR → aH → Prop) (x0 : Nat) (x1 : Nat) (x2 : Int32) (x3 : Int32) (xs0 : Int32) (h : aH) (c s : Nat) : Prop := c ≤ mc → s ≤ ms → AW l G mX1_execute d mc ms P 50 [(0, .ref x0), (1, .ref x1), (2, .int x2), (3, .int x3)] [.int xs0] h c s
def V_X1_execute_24 (l : Launch) (G : aG) (d mc ms : Nat) (P : aR → aH → Prop) (x0 : Nat) (x1 : Nat) (x2 : Int32) (xs0 : Int32) (h : aH) (c s : Nat) : Prop :=
  vA .int h x1 (2 : Int32) fun y1 =>
  vR h x0 1 1 fun a2 =>
  vI h a2 3 5 fun y3 =>
  (y1 < y3 → 
    T_X1_execute_50 l G d mc ms P x0 x1 x2 xs0 1 h c s
    ) ∧ (¬ y1 < y3 → 
    vA .int h x1 (2 : Int32) fun y5 =>
    T_X1_execute_50 l G d mc ms P x0 x1 x2 xs0 (if y5 = 5 then (1 : Int32) else 0) h c s
    )
set_option maxHeartbeats 4000000 in
theorem A_X1_execute_24 {l : Launch} {G : aG} {d mc ms : Nat} {P : aR → aH → Prop} {x0 : Nat} {x1 : Nat} {x2 : Int32} {xs0 : Int32} {h : aH} {c s : Nat} (hl : l.stackTraces = false) (hv : V_X1_execute_24 l G d mc ms P x0 x1 x2 xs0 h c s) : T_X1_execute_24 l G d mc ms P x0 x1 x2 xs0 h c s := by
  intro hc hs
  unfold V_X1_execute_24 at hv
  refine aw_istore_n (lv' := [(3, .int xs0), (0, .ref x0), (1, .ref x1), (2, .int x2)]) dX1_execute_24 rfl (Nat.le_of_ble_eq_true rfl) rfl ?_
  refine aw_aload_n 2 (x := x1) dX1_execute_25 rfl rfl ?_
  refine aw_iconst (v := 2) dX1_execute_26 (by decide) ?_
  obtain ⟨n9, f9, he, hin, hv⟩ := hv
  refine aw_iald he hin dX1_execute_27 ?_
  revert hv; generalize f9 ((2 : Int32)).toNatClampNeg = y1; intro hv
  refine aw_aload_n 1 (x := x0) dX1_execute_28 rfl rfl ?_
  obtain ⟨fs, a2, he, hx, hv⟩ := hv
  refine aw_get (v := .ref a2) he rfl in_X1 1 (by decide) q435 (Or.inl rfl) hx dX1_execute_29 ?_
  obtain ⟨fs, y3, he, hx, hv⟩ := hv
  refine aw_getN (v := .int y3) he rfl in_X3 5 (by decide) q335 (Or.inl rfl) hx dX1_execute_32 ?_
  refine aw_icmp_lt 45 dX1_execute_35 (by decide) (fun c4 => ?_) (fun c4 => ?_)
  · have hv := hv.1 c4
    refine aw_iconst (v := 1) dX1_execute_45 (by decide) ?_
    refine aw_goto 50 dX1_execute_46 (by decide) ?_
    refine aw_sub [1, 2, 3, 0] rfl ?_
    exact hv hc hs
  · have hv := hv.2 c4
    refine aw_aload_n 2 (x := x1) dX1_execute_38 rfl rfl ?_
    refine aw_iconst (v := 2) dX1_execute_39 (by decide) ?_
    obtain ⟨n9, f9, he, hin, hv⟩ := hv
    refine aw_iald he hin dX1_execute_40 ?_
    revert hv; generalize f9 ((2 : Int32)).toNatClampNeg = y5; intro hv
    refine aw_iconst (v := 5) dX1_execute_41 (by decide) ?_
    have J9 : AW l G mX1_execute d mc ms P 50 [(3, .int xs0), (0, .ref x0), (1, .ref x1), (2, .int x2)] [.int (if y5 = 5 then (1 : Int32) else 0)] h c s := by
      refine aw_sub [1, 2, 3, 0] rfl ?_
      exact hv hc hs
    refine aw_icmp_ne 49 dX1_execute_42 (by decide) (fun c6 => ?_) (fun c6 => ?_)
    · have J9 := aw_ifF c6 J9
      refine aw_iconst (v := 0) dX1_execute_49 (by decide) ?_
      exact J9
    · have J9 := aw_ifT c6 J9
      refine aw_iconst (v := 1) dX1_execute_45 (by decide) ?_
      refine aw_goto 50 dX1_execute_46 (by decide) ?_
      exact J9
def V_X1_execute_50 (l : Launch) (G : aG) (d mc ms : Nat) (P : aR → aH → Prop) (x0 : Nat) (x1 : Nat) (x2 : Int32) (x3 : Int32) (xs0 : Int32) (h : aH) (c s : Nat) : Prop :=
  vA .int h x1 (0 : Int32) fun y7 =>
  (y7 = 42 → 
    vIs h x0 1 (
    vC l G mX1_untell (wsN mX1_untell) d mc ms [.ref x0, .int x2, .int 0] h c s (xP P) (kI fun y9 h10 c11 s12 => 
    P (.inl (some (.int y9))) h10))
  ) ∧ (y7 = 58 → 
    vIs h x0 1 (
    vC l G mX1_settle (wsN mX1_settle) d mc ms [.ref x0, .int x2, .int (if xs0 = 0 then ((-1) : Int32) else x3), .int 0] h c s (xP P) (kI fun y14 h15 c16 s17 => 
    P (.inl (some (.int y14))) h15))
  ) ∧ (y7 = 61 → 
    vA .int h x1 (3 : Int32) fun y18 =>
    vIs h x0 1 (
    vC l G mX1_tell (wsN mX1_tell) d mc ms [.ref x0, .int x2, .int x3, .int (if y18 = 1 then (1 : Int32) else 0), .int 0] h c s (xP P) (kI fun y20 h21 c22 s23 => 
    P (.inl (some (.int y20))) h21))
  ) ∧ (¬ y7 = 42 → ¬ y7 = 58 → ¬ y7 = 61 → 
    vIs h x0 1 (
    vC l G mX1_strike (wsN mX1_strike) d mc ms [.ref x0, .int x2, .int (if xs0 = 0 then ((-1) : Int32) else x3), .int 0] h c s (xP P) (kI fun y25 h26 c27 s28 => 
    P (.inl (some (.int y25))) h26))
  )
set_option maxHeartbeats 4000000 in
theorem A_X1_execute_50 {l : Launch} {G : aG} {d mc ms : Nat} {P : aR → aH → Prop} {x0 : Nat} {x1 : Nat} {x2 : Int32} {x3 : Int32} {xs0 : Int32} {h : aH} {c s : Nat} (hl : l.stackTraces = false) (hv : V_X1_execute_50 l G d mc ms P x0 x1 x2 x3 xs0 h c s) : T_X1_execute_50 l G d mc ms P x0 x1 x2 x3 xs0 h c s := by
  intro hc hs
  unfold V_X1_execute_50 at hv
  refine aw_istore (lv' := [(4, .int xs0), (0, .ref x0), (1, .ref x1), (2, .int x2), (3, .int x3)]) dX1_execute_50 (Nat.le_of_ble_eq_true rfl) rfl ?_
  refine aw_aload_n 2 (x := x1) dX1_execute_52 rfl rfl ?_
  refine aw_iconst (v := 0) dX1_execute_53 (by decide) ?_
  obtain ⟨n9, f9, he, hin, hv⟩ := hv
  refine aw_iald he hin dX1_execute_54 ?_
  revert hv; generalize f9 ((0 : Int32)).toNatClampNeg = y7; intro hv
  by_cases c8_0 : y7 = 42
  · have hv := (hv).1 c8_0
    refine aw_lookup (off := 53) 108 dX1_execute_55 (by decide) (by rw [c8_0]; decide) (by decide) ?_
    refine aw_aload_n 1 (x := x0) dX1_execute_108 rfl rfl ?_
    refine aw_iload_n 3 dX1_execute_109 rfl rfl ?_
    refine aw_iconst (v := 0) dX1_execute_110 (by decide) ?_
    obtain ⟨⟨fs, he⟩, hv⟩ := hv
    obtain ⟨d2, mc2, ms2, Q, hM, hd9, hc9, hs9, hv, hx⟩ := hv
    refine aw_callV (rest := []) hM he rfl rfl nX1_untell q1402 q1404 qs42 q119 q1405 dX1_execute_111 rfl hd9 (by decide) (Nat.le_of_ble_eq_true rfl) hc9 hs9 ?_ ?_
    rotate_left
    · exact fun E h2 q => aX_out (hx E h2 q) rfl hc9 hs9
    intro v9 h10 hq
    have hv := hv v9 h10 hq
    obtain ⟨y9, rfl, hv⟩ := hv
    refine aw_eqv (pc2 := 114) (st2 := [.int y9]) rfl rfl rfl rfl ?_
    revert hv hc9 hs9; generalize c + mc2 = c11; generalize s + ms2 = s12; intro hc9 hs9 hv
    exact aw_iret rfl dX1_execute_114 hv hc9 hs9
  by_cases c8_1 : y7 = 58
  · have hv := ((hv).2).1 c8_1
    refine aw_lookup (off := 60) 115 dX1_execute_55 (by decide) (by rw [c8_1]; decide) (by decide) ?_
    refine aw_aload_n 1 (x := x0) dX1_execute_115 rfl rfl ?_
    refine aw_iload_n 3 dX1_execute_116 rfl rfl ?_
    refine aw_iload 0 dX1_execute_117 rfl ?_
    have J9 : AW l G mX1_execute d mc ms P 127 [(4, .int xs0), (0, .ref x0), (1, .ref x1), (2, .int x2), (3, .int x3)] [.int (if xs0 = 0 then ((-1) : Int32) else x3), .int x2, .ref x0] h c s := by
      refine aw_iconst (v := 0) dX1_execute_127 (by decide) ?_
      obtain ⟨⟨fs, he⟩, hv⟩ := hv
      obtain ⟨d2, mc2, ms2, Q, hM, hd9, hc9, hs9, hv, hx⟩ := hv
      refine aw_callV (rest := []) hM he rfl rfl nX1_settle q1475 q1477 qs46 q119 q1478 dX1_execute_128 rfl hd9 (by decide) (Nat.le_of_ble_eq_true rfl) hc9 hs9 ?_ ?_
      rotate_left
      · exact fun E h2 q => aX_out (hx E h2 q) rfl hc9 hs9
      intro v9 h15 hq
      have hv := hv v9 h15 hq
      obtain ⟨y14, rfl, hv⟩ := hv
      refine aw_eqv (pc2 := 131) (st2 := [.int y14]) rfl rfl rfl rfl ?_
      revert hv hc9 hs9; generalize c + mc2 = c16; generalize s + ms2 = s17; intro hc9 hs9 hv
      exact aw_iret rfl dX1_execute_131 hv hc9 hs9
    refine aw_if_eq 126 dX1_execute_119 (by decide) (fun c13 => ?_) (fun c13 => ?_)
    · have J9 := aw_ifT c13 J9
      refine aw_iconst (v := (-1)) dX1_execute_126 (by decide) ?_
      exact J9
    · have J9 := aw_ifF c13 J9
      refine aw_iload_n 4 dX1_execute_122 rfl rfl ?_
      refine aw_goto 127 dX1_execute_123 (by decide) ?_
      exact J9
  by_cases c8_2 : y7 = 61
  · have hv := (((hv).2).2).1 c8_2
    refine aw_lookup (off := 33) 88 dX1_execute_55 (by decide) (by rw [c8_2]; decide) (by decide) ?_
    refine aw_aload_n 1 (x := x0) dX1_execute_88 rfl rfl ?_
    refine aw_iload_n 3 dX1_execute_89 rfl rfl ?_
    refine aw_iload_n 4 dX1_execute_90 rfl rfl ?_
    refine aw_aload_n 2 (x := x1) dX1_execute_91 rfl rfl ?_
    refine aw_iconst (v := 3) dX1_execute_92 (by decide) ?_
    obtain ⟨n9, f9, he, hin, hv⟩ := hv
    refine aw_iald he hin dX1_execute_93 ?_
    revert hv; generalize f9 ((3 : Int32)).toNatClampNeg = y18; intro hv
    refine aw_iconst (v := 1) dX1_execute_94 (by decide) ?_
    have J9 : AW l G mX1_execute d mc ms P 103 [(4, .int xs0), (0, .ref x0), (1, .ref x1), (2, .int x2), (3, .int x3)] [.int (if y18 = 1 then (1 : Int32) else 0), .int x3, .int x2, .ref x0] h c s := by
      refine aw_iconst (v := 0) dX1_execute_103 (by decide) ?_
      obtain ⟨⟨fs, he⟩, hv⟩ := hv
      obtain ⟨d2, mc2, ms2, Q, hM, hd9, hc9, hs9, hv, hx⟩ := hv
      refine aw_callV (rest := []) hM he rfl rfl nX1_tell q1364 q1366 qs39 q119 q1367 dX1_execute_104 rfl hd9 (by decide) (Nat.le_of_ble_eq_true rfl) hc9 hs9 ?_ ?_
      rotate_left
      · exact fun E h2 q => aX_out (hx E h2 q) rfl hc9 hs9
      intro v9 h21 hq
      have hv := hv v9 h21 hq
      obtain ⟨y20, rfl, hv⟩ := hv
      refine aw_eqv (pc2 := 107) (st2 := [.int y20]) rfl rfl rfl rfl ?_
      revert hv hc9 hs9; generalize c + mc2 = c22; generalize s + ms2 = s23; intro hc9 hs9 hv
      exact aw_iret rfl dX1_execute_107 hv hc9 hs9
    refine aw_icmp_ne 102 dX1_execute_95 (by decide) (fun c19 => ?_) (fun c19 => ?_)
    · have J9 := aw_ifF c19 J9
      refine aw_iconst (v := 0) dX1_execute_102 (by decide) ?_
      exact J9
    · have J9 := aw_ifT c19 J9
      refine aw_iconst (v := 1) dX1_execute_98 (by decide) ?_
      refine aw_goto 103 dX1_execute_99 (by decide) ?_
      exact J9
  have hv := ((((hv).2).2).2) c8_0 c8_1 c8_2
  refine aw_lookup (off := 77) 132 dX1_execute_55 (by decide) (by have ec8_0 := lv_neT (a := 42) c8_0 (by decide); have ec8_1 := lv_neT (a := 58) c8_1 (by decide); have ec8_2 := lv_neT (a := 61) c8_2 (by decide); exact lk_out (by simp; omega)) (by decide) ?_
  refine aw_aload_n 1 (x := x0) dX1_execute_132 rfl rfl ?_
  refine aw_iload_n 3 dX1_execute_133 rfl rfl ?_
  refine aw_iload 0 dX1_execute_134 rfl ?_
  have J9 : AW l G mX1_execute d mc ms P 144 [(4, .int xs0), (0, .ref x0), (1, .ref x1), (2, .int x2), (3, .int x3)] [.int (if xs0 = 0 then ((-1) : Int32) else x3), .int x2, .ref x0] h c s := by
    refine aw_iconst (v := 0) dX1_execute_144 (by decide) ?_
    obtain ⟨⟨fs, he⟩, hv⟩ := hv
    obtain ⟨d2, mc2, ms2, Q, hM, hd9, hc9, hs9, hv, hx⟩ := hv
    refine aw_callV (rest := []) hM he rfl rfl nX1_strike q1494 q1496 qs49 q119 q1497 dX1_execute_145 rfl hd9 (by decide) (Nat.le_of_ble_eq_true rfl) hc9 hs9 ?_ ?_
    rotate_left
    · exact fun E h2 q => aX_out (hx E h2 q) rfl hc9 hs9
    intro v9 h26 hq
    have hv := hv v9 h26 hq
    obtain ⟨y25, rfl, hv⟩ := hv
    refine aw_eqv (pc2 := 148) (st2 := [.int y25]) rfl rfl rfl rfl ?_
    revert hv hc9 hs9; generalize c + mc2 = c27; generalize s + ms2 = s28; intro hc9 hs9 hv
    exact aw_iret rfl dX1_execute_148 hv hc9 hs9
  refine aw_if_eq 143 dX1_execute_136 (by decide) (fun c24 => ?_) (fun c24 => ?_)
  · have J9 := aw_ifT c24 J9
    refine aw_iconst (v := (-1)) dX1_execute_143 (by decide) ?_
    exact J9
  · have J9 := aw_ifF c24 J9
    refine aw_iload_n 4 dX1_execute_139 rfl rfl ?_
    refine aw_goto 144 dX1_execute_140 (by decide) ?_
    exact J9
def V_X1_execute_0 (l : Launch) (G : aG) (d mc ms : Nat) (P : aR → aH → Prop) (x0 : Nat) (x1 : Nat) (h : aH) : Prop :=
  vA .int h x1 (1 : Int32) fun y29 =>
  vA .int h x1 (2 : Int32) fun y30 =>
  (¬ y30 = 5 → 
    vA .int h x1 (2 : Int32) fun y32 =>
    T_X1_execute_24 l G d mc ms P x0 x1 y29 y32 h 0 0
    ) ∧ (y30 = 5 → 
    vR h x0 1 1 fun a33 =>
    vI h a33 3 5 fun y34 =>
    T_X1_execute_24 l G d mc ms P x0 x1 y29 y34 h 0 0
    )
set_option maxHeartbeats 4000000 in
theorem A_X1_execute {l : Launch} {G : aG} {d mc ms : Nat} {P : aR → aH → Prop} {x0 : Nat} {x1 : Nat} {h : aH} (hl : l.stackTraces = false) (hv : V_X1_execute_0 l G d mc ms P x0 x1 h) : aC l G mX1_execute (wsN mX1_execute) d mc ms [.ref x0, .ref x1] h P := by
  refine aC_ofF (M := mX1_execute) rfl pX1_execute (Nat.le_of_ble_eq_true rfl) hl ?_
  refine aw_eqv (lv2 := [(0, .ref x0), (1, .ref x1)]) rfl rfl rfl rfl ?_
  unfold V_X1_execute_0 at hv
  refine aw_aload_n 1 (x := x1) dX1_execute_0 rfl rfl ?_
  refine aw_iconst (v := 1) dX1_execute_1 (by decide) ?_
  obtain ⟨n9, f9, he, hin, hv⟩ := hv
  refine aw_iald he hin dX1_execute_2 ?_
  revert hv; generalize f9 ((1 : Int32)).toNatClampNeg = y29; intro hv
  refine aw_istore_n (lv' := [(2, .int y29), (0, .ref x0), (1, .ref x1)]) dX1_execute_3 rfl (Nat.le_of_ble_eq_true rfl) rfl ?_
  refine aw_aload_n 2 (x := x1) dX1_execute_4 rfl rfl ?_
  refine aw_iconst (v := 2) dX1_execute_5 (by decide) ?_
  obtain ⟨n9, f9, he, hin, hv⟩ := hv
  refine aw_iald he hin dX1_execute_6 ?_
  revert hv; generalize f9 ((2 : Int32)).toNatClampNeg = y30; intro hv
  refine aw_iconst (v := 5) dX1_execute_7 (by decide) ?_
  refine aw_icmp_ne 21 dX1_execute_8 (by decide) (fun c31 => ?_) (fun c31 => ?_)
  · have hv := hv.1 c31
    refine aw_aload_n 2 (x := x1) dX1_execute_21 rfl rfl ?_
    refine aw_iconst (v := 2) dX1_execute_22 (by decide) ?_
    obtain ⟨n9, f9, he, hin, hv⟩ := hv
    refine aw_iald he hin dX1_execute_23 ?_
    revert hv; generalize f9 ((2 : Int32)).toNatClampNeg = y32; intro hv
    refine aw_sub [1, 2, 0] rfl ?_
    exact hv (Nat.zero_le _) (Nat.zero_le _)
  · have hv := hv.2 c31
    refine aw_aload_n 1 (x := x0) dX1_execute_11 rfl rfl ?_
    obtain ⟨fs, a33, he, hx, hv⟩ := hv
    refine aw_get (v := .ref a33) he rfl in_X1 1 (by decide) q435 (Or.inl rfl) hx dX1_execute_12 ?_
    obtain ⟨fs, y34, he, hx, hv⟩ := hv
    refine aw_getN (v := .int y34) he rfl in_X3 5 (by decide) q335 (Or.inl rfl) hx dX1_execute_15 ?_
    refine aw_goto 24 dX1_execute_18 (by decide) ?_
    refine aw_sub [1, 2, 0] rfl ?_
    exact hv (Nat.zero_le _) (Nat.zero_le _)
def T_X1_succeeds_8 (l : Launch) (G : aG) (d mc ms : Nat) (P : aR → aH → Prop) (xs0 : Nat) (h : aH) (c s : Nat) : Prop := c ≤ mc → s ≤ ms → AW l G mX1_succeeds d mc ms P 8 [] [.ref xs0] h c s
def V_X1_succeeds_8 (l : Launch) (G : aG) (d mc ms : Nat) (P : aR → aH → Prop) (xs0 : Nat) (h : aH) (c s : Nat) : Prop :=
  P (.inl (some (.int 0))) h
set_option maxHeartbeats 4000000 in
theorem A_X1_succeeds_8 {l : Launch} {G : aG} {d mc ms : Nat} {P : aR → aH → Prop} {xs0 : Nat} {h : aH} {c s : Nat} (hl : l.stackTraces = false) (hv : V_X1_succeeds_8 l G d mc ms P xs0 h c s) : T_X1_succeeds_8 l G d mc ms P xs0 h c s := by
  intro hc hs
  unfold V_X1_succeeds_8 at hv
  refine aw_astore_n (lv' := [(2, .ref xs0)]) dX1_succeeds_8 rfl (Nat.le_of_ble_eq_true rfl) rfl ?_
  refine aw_iconst (v := 0) dX1_succeeds_9 (by decide) ?_
  exact aw_zret rfl rfl dX1_succeeds_10 hv hc hs
def V_X1_succeeds_0 (l : Launch) (G : aG) (d mc ms : Nat) (P : aR → aH → Prop) (x0 : Nat) (x1 : Nat) (h : aH) : Prop :=
  vIs h x0 1 (
  vC l G mX1_execute (wsN mX1_execute) d mc ms [.ref x0, .ref x1] h 0 0 (fun E h c s => (E = "java/lang/IndexOutOfBoundsException" ∧ ∀ q, T_X1_succeeds_8 l G d mc ms P q h c s) ∨ (E = "java/lang/IllegalArgumentException" ∧ ∀ q, T_X1_succeeds_8 l G d mc ms P q h c s) ∨ (E = "java/lang/IllegalStateException" ∧ ∀ q, T_X1_succeeds_8 l G d mc ms P q h c s)) (kI fun y1 h2 c3 s4 => 
  P (.inl (some (.int 1))) h2))
set_option maxHeartbeats 4000000 in
theorem A_X1_succeeds {l : Launch} {G : aG} {d mc ms : Nat} {P : aR → aH → Prop} {x0 : Nat} {x1 : Nat} {h : aH} (hl : l.stackTraces = false) (hv : V_X1_succeeds_0 l G d mc ms P x0 x1 h) : aC l G mX1_succeeds (wsX mX1_succeeds) d mc ms [.ref x0, .ref x1] h P := by
  refine aC_ofH (M := mX1_succeeds) (by decide) (Nat.le_of_ble_eq_true rfl) hl ?_
  refine aw_eqv (lv2 := [(0, .ref x0), (1, .ref x1)]) rfl rfl rfl rfl ?_
  unfold V_X1_succeeds_0 at hv
  refine aw_aload_n 0 (x := x0) dX1_succeeds_0 rfl rfl ?_
  refine aw_aload_n 1 (x := x1) dX1_succeeds_1 rfl rfl ?_
  obtain ⟨⟨fs, he⟩, hv⟩ := hv
  obtain ⟨d2, mc2, ms2, Q, hM, hd9, hc9, hs9, hv, hx⟩ := hv
  refine aw_callV (rest := []) hM he rfl rfl nX1_execute q1686 q1688 qs51 q119 q1689 dX1_succeeds_2 rfl hd9 (by decide) (Nat.le_of_ble_eq_true rfl) hc9 hs9 ?_ ?_
  rotate_left
  · exact fun E h2 q9 => by
      rcases hx E h2 q9 with ⟨e, hk⟩ | ⟨e, hk⟩ | ⟨e, hk⟩
      · subst e; exact aX_catch [] ⟨0, 7, 8, 1⟩ [⟨0, 7, 8, 7⟩, ⟨0, 7, 8, 10⟩] rfl (fun z hz => by cases hz) (by decide) (by decide) q1375 q1377 (fun q => aw_sub [] rfl ((hk q) hc9 hs9))
      · subst e; exact aX_catch [⟨0, 7, 8, 1⟩] ⟨0, 7, 8, 7⟩ [⟨0, 7, 8, 10⟩] rfl (fun z hz => by (rcases List.mem_cons.mp hz with rfl | hz; exact Or.inr ⟨by decide, "java/lang/IndexOutOfBoundsException", q1375, by decide⟩; cases hz)) (by decide) (by decide) q1342 q1042 (fun q => aw_sub [] rfl ((hk q) hc9 hs9))
      · subst e; exact aX_catch [⟨0, 7, 8, 1⟩, ⟨0, 7, 8, 7⟩] ⟨0, 7, 8, 10⟩ [] rfl (fun z hz => by (rcases List.mem_cons.mp hz with rfl | hz; exact Or.inr ⟨by decide, "java/lang/IndexOutOfBoundsException", q1375, by decide⟩; rcases List.mem_cons.mp hz with rfl | hz; exact Or.inr ⟨by decide, "java/lang/IllegalArgumentException", q1342, by decide⟩; cases hz)) (by decide) (by decide) q1409 q1411 (fun q => aw_sub [] rfl ((hk q) hc9 hs9))
  intro v9 h2 hq
  have hv := hv v9 h2 hq
  obtain ⟨y1, rfl, hv⟩ := hv
  refine aw_eqv (pc2 := 5) (st2 := [.int y1]) rfl rfl rfl rfl ?_
  revert hv hc9 hs9; generalize 0 + mc2 = c3; generalize 0 + ms2 = s4; intro hc9 hs9 hv
  refine aw_istore_n (lv' := [(2, .int y1), (0, .ref x0), (1, .ref x1)]) dX1_succeeds_5 rfl (Nat.le_of_ble_eq_true rfl) rfl ?_
  refine aw_iconst (v := 1) dX1_succeeds_6 (by decide) ?_
  exact aw_zret rfl rfl dX1_succeeds_7 hv hc9 hs9
def T_X1_runText_39 (l : Launch) (G : aG) (d mc ms : Nat) (P : aR → aH → Prop) (x0 : Nat) (x1 : Nat) (x2 : Int32) (h : aH) (c s : Nat) : Prop := c ≤ mc → s ≤ ms → AW l G mX1_runText d mc ms P 39 [(0, .ref x0), (1, .ref x1), (2, .int x2)] [] h c s
def V_X1_runText_39 (l : Launch) (G : aG) (d mc ms : Nat) (P : aR → aH → Prop) (x0 : Nat) (x1 : Nat) (x2 : Int32) (h : aH) (c s : Nat) : Prop :=
  vR h x1 8 0 fun a1 =>
  vIs h a1 9 (
  vC l G mJ2_size (wsN mJ2_size) d mc ms [.ref a1] h c s (xP P) (kI fun y2 h3 c4 s5 => 
  (y2 ≤ x2 → 
    P (.inl (some (.int x2))) h3
    ) ∧ (¬ y2 ≤ x2 → 
    vR h3 x1 8 0 fun a7 =>
    vIs h3 a7 9 (
    vC l G mJ2_get (wsN mJ2_get) d mc ms [.ref a7, .int x2] h3 c4 s5 (xP P) (kR fun a8 h9 c10 s11 => 
    vCastI h9 a8 (
    vIs h9 x0 1 (
    vC l G mX1_succeeds (wsX mX1_succeeds) d mc ms [.ref x0, .ref a8] h9 c10 s11 (xP P) (kI fun y12 h13 c14 s15 => 
    (y12 = 0 → 
      P (.inl (some (.int x2))) h13
      ) ∧ (¬ y12 = 0 → 
      T_X1_runText_39 l G d mc ms P x0 x1 (x2 + 1) h13 c14 s15
      ))))))
    )))
set_option maxHeartbeats 4000000 in
theorem A_X1_runText_39 {l : Launch} {G : aG} {d mc ms : Nat} {P : aR → aH → Prop} {x0 : Nat} {x1 : Nat} {x2 : Int32} {h : aH} {c s : Nat} (hl : l.stackTraces = false) (hv : V_X1_runText_39 l G d mc ms P x0 x1 x2 h c s) : T_X1_runText_39 l G d mc ms P x0 x1 x2 h c s := by
  intro hc hs
  unfold V_X1_runText_39 at hv
  refine aw_iload_n 2 dX1_runText_39 rfl rfl ?_
  refine aw_aload_n 1 (x := x1) dX1_runText_40 rfl rfl ?_
  obtain ⟨fs, a1, he, hx, hv⟩ := hv
  refine aw_getN (v := .ref a1) he rfl in_X9 0 (by decide) q1311 (Or.inl rfl) hx dX1_runText_41 ?_
  obtain ⟨⟨fs, he⟩, hv⟩ := hv
  obtain ⟨d2, mc2, ms2, Q, hM, hd9, hc9, hs9, hv, hx⟩ := hv
  refine aw_callF (rest := [.int x2]) (x := ⟨"java/util/List", "size", "()I"⟩) hM he rfl (by decide +kernel : aNoMH ⟨"java/util/List", "size", "()I"⟩ 0) (by decide +kernel) q469 q474 q472 q125 q476 dX1_runText_44 rfl hd9 (by decide) (Nat.le_of_ble_eq_true rfl) hc9 hs9 ?_ ?_
  rotate_left
  · exact fun E h2 q => aX_out (hx E h2 q) rfl hc9 hs9
  intro v9 h3 hq
  have hv := hv v9 h3 hq
  obtain ⟨y2, rfl, hv⟩ := hv
  refine aw_eqv (pc2 := 49) (st2 := [.int y2, .int x2]) rfl rfl rfl rfl ?_
  revert hv hc9 hs9; generalize c + mc2 = c4; generalize s + ms2 = s5; intro hc9 hs9 hv
  refine aw_icmp_ge 78 dX1_runText_49 (by decide) (fun c6 => ?_) (fun c6 => ?_)
  · have hv := hv.1 c6
    refine aw_iload_n 2 dX1_runText_78 rfl rfl ?_
    exact aw_iret rfl dX1_runText_79 hv hc9 hs9
  · have hv := hv.2 c6
    refine aw_aload_n 0 (x := x0) dX1_runText_52 rfl rfl ?_
    refine aw_aload_n 1 (x := x1) dX1_runText_53 rfl rfl ?_
    obtain ⟨fs, a7, he, hx, hv⟩ := hv
    refine aw_getN (v := .ref a7) he rfl in_X9 0 (by decide) q1311 (Or.inl rfl) hx dX1_runText_54 ?_
    refine aw_iload_n 2 dX1_runText_57 rfl rfl ?_
    obtain ⟨⟨fs, he⟩, hv⟩ := hv
    obtain ⟨d2, mc2, ms2, Q, hM, hd9, hc9, hs9, hv, hx⟩ := hv
    refine aw_callF (rest := [.ref x0]) (x := ⟨"java/util/List", "get", "(I)Ljava/lang/Object;"⟩) hM he rfl (by decide +kernel : aNoMH ⟨"java/util/List", "get", "(I)Ljava/lang/Object;"⟩ 1) (by decide +kernel) q1680 q643 q641 q125 q645 dX1_runText_58 rfl hd9 (by decide) (Nat.le_of_ble_eq_true rfl) hc9 hs9 ?_ ?_
    rotate_left
    · exact fun E h2 q => aX_out (hx E h2 q) rfl hc9 hs9
    intro v9 h9 hq
    have hv := hv v9 h9 hq
    obtain ⟨a8, rfl, hv⟩ := hv
    refine aw_eqv (pc2 := 63) (st2 := [.ref a8, .ref x0]) rfl rfl rfl rfl ?_
    revert hv hc9 hs9; generalize c4 + mc2 = c10; generalize s5 + ms2 = s11; intro hc9 hs9 hv
    obtain ⟨⟨n9, f9, he⟩, hv⟩ := hv
    refine aw_castI q1681 he dX1_runText_63 ?_
    obtain ⟨⟨fs, he⟩, hv⟩ := hv
    obtain ⟨d2, mc2, ms2, Q, hM, hd9, hc9, hs9, hv, hx⟩ := hv
    refine aw_callVW (rest := []) hM he rfl rfl nX1_succeeds q1682 q1684 qs50 q119 q1685 dX1_runText_66 rfl hd9 (by decide) (Nat.le_of_ble_eq_true rfl) hc9 hs9 ?_ ?_
    rotate_left
    · exact fun E h2 q => aX_out (hx E h2 q) rfl hc9 hs9
    intro v9 h13 hq
    have hv := hv v9 h13 hq
    obtain ⟨y12, rfl, hv⟩ := hv
    refine aw_eqv (pc2 := 69) (st2 := [.int y12]) rfl rfl rfl rfl ?_
    revert hv hc9 hs9; generalize c10 + mc2 = c14; generalize s11 + ms2 = s15; intro hc9 hs9 hv
    refine aw_if_eq 78 dX1_runText_69 (by decide) (fun c16 => ?_) (fun c16 => ?_)
    · have hv := hv.1 c16
      refine aw_iload_n 2 dX1_runText_78 rfl rfl ?_
      exact aw_iret rfl dX1_runText_79 hv hc9 hs9
    · have hv := hv.2 c16
      refine aw_iinc 2 (v := x2 + 1) (lv' := [(2, .int (x2 + 1)), (0, .ref x0), (1, .ref x1)]) dX1_runText_72 rfl rfl (Nat.le_of_ble_eq_true rfl) rfl ?_
      refine aw_goto 39 dX1_runText_75 (by decide) ?_
      refine aw_sub [1, 2, 0] rfl ?_
      exact hv hc9 hs9
def V_X1_runText_0 (l : Launch) (G : aG) (d mc ms : Nat) (P : aR → aH → Prop) (x0 : Nat) (h : aH) : Prop :=
  vNew h 8 4 [.null, .int 0, .int 0, .null] mc ms 0 0 fun a17 h18 c19 s20 => h a17 = none →
  vC l G mX9_init (wsN mX9_init) d mc ms [.ref a17, .ref x0] h18 c19 s20 (xP P) (kV fun h23 c24 s25 => 
  vI h23 a17 8 2 fun y26 =>
  vC l G mX1_checkState (wsN mX1_checkState) d mc ms [.int (if y26 = 0 then (1 : Int32) else 0)] h23 c24 s25 (xP P) (kV fun h29 c30 s31 => 
  vIs h29 x0 1 (
  vC l G mX1_recordIf (wsN mX1_recordIf) d mc ms [.ref x0, .int 1] h29 c30 s31 (xP P) (kV fun h33 c34 s35 => 
  vR h33 x0 1 7 fun a36 =>
  vIs h33 a36 10 (
  vC l G mJ8_setLength (wsN mJ8_setLength) d mc ms [.ref a36, .int 0] h33 c34 s35 (xP P) (kV fun h38 c39 s40 => 
  T_X1_runText_39 l G d mc ms P x0 a17 0 h38 c39 s40))))))
set_option maxHeartbeats 4000000 in
theorem A_X1_runText {l : Launch} {G : aG} {d mc ms : Nat} {P : aR → aH → Prop} {x0 : Nat} {h : aH} (hl : l.stackTraces = false) (hv : V_X1_runText_0 l G d mc ms P x0 h) : aC l G mX1_runText (wsN mX1_runText) d mc ms [.ref x0] h P := by
  refine aC_ofF (M := mX1_runText) rfl pX1_runText (Nat.le_of_ble_eq_true rfl) hl ?_
  refine aw_eqv (lv2 := [(0, .ref x0)]) rfl rfl rfl rfl ?_
  unfold V_X1_runText_0 at hv
  obtain ⟨hc9, hs9, hv⟩ := hv
  refine aw_new (N := 4) (fs := [.null, .int 0, .int 0, .null]) (rfl : aCl[8]? = _) in_X9 tyX9_ok q1196 q1197 q151 (by decide) hc9 hs9 dX1_runText_0 (fun a17 g21 => ?_)
  have hv := hv a17 g21 g21
  refine aw_eqv (pc2 := 3) (st2 := [.ref a17]) rfl rfl rfl rfl ?_
  revert hv hc9 hs9; generalize aUp h a17 (.inr (8, [.null, .int 0, .int 0, .null])) = h18; generalize 0 + 1 = c19; generalize 0 + 4 = s20; intro hc9 hs9 hv
  refine aw_dup dX1_runText_3 rfl ?_
  refine aw_aload_n 0 (x := x0) dX1_runText_4 rfl rfl ?_
  obtain ⟨d2, mc2, ms2, Q, hM, hd9, hc9, hs9, hv, hx⟩ := hv
  refine aw_callI (rest := [.ref a17]) rfl hM nX9_init rfl q1198 q1199 q151 q1200 dX1_runText_5 rfl hd9 (by decide) (Nat.le_of_ble_eq_true rfl) hc9 hs9 ?_ ?_
  rotate_left
  · exact fun E h2 q => aX_out (hx E h2 q) rfl hc9 hs9
  intro v9 h23 hq
  have hv := hv v9 h23 hq
  obtain ⟨rfl, hv⟩ := hv
  refine aw_eqv (pc2 := 8) (st2 := [.ref a17]) rfl rfl rfl rfl ?_
  revert hv hc9 hs9; generalize c19 + mc2 = c24; generalize s20 + ms2 = s25; intro hc9 hs9 hv
  refine aw_astore_n (lv' := [(1, .ref a17), (0, .ref x0)]) dX1_runText_8 rfl (Nat.le_of_ble_eq_true rfl) rfl ?_
  refine aw_aload_n 0 (x := a17) dX1_runText_9 rfl rfl ?_
  obtain ⟨fs, y26, he, hx, hv⟩ := hv
  refine aw_getN (v := .int y26) he rfl in_X9 2 (by decide) q1315 (Or.inl rfl) hx dX1_runText_10 ?_
  have J9 : AW l G mX1_runText d mc ms P 21 [(1, .ref a17), (0, .ref x0)] [.int (if y26 = 0 then (1 : Int32) else 0)] h23 c24 s25 := by
    obtain ⟨d2, mc2, ms2, Q, hM, hd9, hc9, hs9, hv, hx⟩ := hv
    refine aw_callS (rest := []) hM nX1_checkState q1406 q1407 q119 q1408 dX1_runText_21 rfl hd9 (by decide) (Nat.le_of_ble_eq_true rfl) hc9 hs9 ?_ ?_
    rotate_left
    · exact fun E h2 q => aX_out (hx E h2 q) rfl hc9 hs9
    intro v9 h29 hq
    have hv := hv v9 h29 hq
    obtain ⟨rfl, hv⟩ := hv
    refine aw_eqv (pc2 := 24) (st2 := []) rfl rfl rfl rfl ?_
    revert hv hc9 hs9; generalize c24 + mc2 = c30; generalize s25 + ms2 = s31; intro hc9 hs9 hv
    refine aw_aload_n 1 (x := x0) dX1_runText_24 rfl rfl ?_
    refine aw_iconst (v := 1) dX1_runText_25 (by decide) ?_
    obtain ⟨⟨fs, he⟩, hv⟩ := hv
    obtain ⟨d2, mc2, ms2, Q, hM, hd9, hc9, hs9, hv, hx⟩ := hv
    refine aw_callV (rest := []) hM he rfl rfl nX1_recordIf q464 q466 qs6 q119 q467 dX1_runText_26 rfl hd9 (by decide) (Nat.le_of_ble_eq_true rfl) hc9 hs9 ?_ ?_
    rotate_left
    · exact fun E h2 q => aX_out (hx E h2 q) rfl hc9 hs9
    intro v9 h33 hq
    have hv := hv v9 h33 hq
    obtain ⟨rfl, hv⟩ := hv
    refine aw_eqv (pc2 := 29) (st2 := []) rfl rfl rfl rfl ?_
    revert hv hc9 hs9; generalize c30 + mc2 = c34; generalize s31 + ms2 = s35; intro hc9 hs9 hv
    refine aw_aload_n 1 (x := x0) dX1_runText_29 rfl rfl ?_
    obtain ⟨fs, a36, he, hx, hv⟩ := hv
    refine aw_get (v := .ref a36) he rfl in_X1 7 (by decide) q442 (Or.inl rfl) hx dX1_runText_30 ?_
    refine aw_iconst (v := 0) dX1_runText_33 (by decide) ?_
    obtain ⟨⟨fs, he⟩, hv⟩ := hv
    obtain ⟨d2, mc2, ms2, Q, hM, hd9, hc9, hs9, hv, hx⟩ := hv
    refine aw_callV (rest := []) hM he rfl rfl nJ8_setLength q866 q867 q868 q134 q869 dX1_runText_34 rfl hd9 (by decide) (Nat.le_of_ble_eq_true rfl) hc9 hs9 ?_ ?_
    rotate_left
    · exact fun E h2 q => aX_out (hx E h2 q) rfl hc9 hs9
    intro v9 h38 hq
    have hv := hv v9 h38 hq
    obtain ⟨rfl, hv⟩ := hv
    refine aw_eqv (pc2 := 37) (st2 := []) rfl rfl rfl rfl ?_
    revert hv hc9 hs9; generalize c34 + mc2 = c39; generalize s35 + ms2 = s40; intro hc9 hs9 hv
    refine aw_iconst (v := 0) dX1_runText_37 (by decide) ?_
    refine aw_istore_n (lv' := [(2, .int 0), (1, .ref a17), (0, .ref x0)]) dX1_runText_38 rfl (Nat.le_of_ble_eq_true rfl) rfl ?_
    refine aw_sub [2, 1, 0] rfl ?_
    exact hv hc9 hs9
  refine aw_if_ne 20 dX1_runText_13 (by decide) (fun c27 => ?_) (fun c27 => ?_)
  · have J9 := aw_ifF c27 J9
    refine aw_iconst (v := 0) dX1_runText_20 (by decide) ?_
    exact J9
  · have J9 := aw_ifT c27 J9
    refine aw_iconst (v := 1) dX1_runText_16 (by decide) ?_
    refine aw_goto 21 dX1_runText_17 (by decide) ?_
    exact J9
def V_X1_undo_0 (l : Launch) (G : aG) (d mc ms : Nat) (P : aR → aH → Prop) (x0 : Nat) (h : aH) : Prop :=
  vR h x0 1 5 fun a1 =>
  vIs h a1 9 (
  vC l G mJ2_isEmpty (wsN mJ2_isEmpty) d mc ms [.ref a1] h 0 0 (xP P) (kI fun y2 h3 c4 s5 => 
  vC l G mX1_checkState (wsN mX1_checkState) d mc ms [.int (if y2 = 0 then (1 : Int32) else 0)] h3 c4 s5 (xP P) (kV fun h8 c9 s10 => 
  vR h8 x0 1 0 fun a11 =>
  vR h8 x0 1 5 fun a12 =>
  vR h8 x0 1 5 fun a13 =>
  vIs h8 a13 9 (
  vC l G mJ2_size (wsN mJ2_size) d mc ms [.ref a13] h8 c9 s10 (xP P) (kI fun y14 h15 c16 s17 => 
  vIs h15 a12 9 (
  vC l G mJ2_remove (wsN mJ2_remove) d mc ms [.ref a12, .int (y14 - (1 : Int32))] h15 c16 s17 (xP P) (kR fun a18 h19 c20 s21 => 
  vCastO h19 a18 2 (
  vIs h19 a11 2 (
  vC l G mX2_setAll (wsN mX2_setAll) d mc ms [.ref a11, .ref a18] h19 c20 s21 (xP P) (kV fun h23 c24 s25 => 
  vR h23 x0 1 5 fun a26 =>
  vIs h23 a26 9 (
  vC l G mJ2_size (wsN mJ2_size) d mc ms [.ref a26] h23 c24 s25 (xP P) (kI fun y27 h28 c29 s30 => 
  P (.inl (some (.int y27))) h28))))))))))))
set_option maxHeartbeats 4000000 in
theorem A_X1_undo {l : Launch} {G : aG} {d mc ms : Nat} {P : aR → aH → Prop} {x0 : Nat} {h : aH} (hl : l.stackTraces = false) (hv : V_X1_undo_0 l G d mc ms P x0 h) : aC l G mX1_undo (wsN mX1_undo) d mc ms [.ref x0] h P := by
  refine aC_ofF (M := mX1_undo) rfl pX1_undo (Nat.le_of_ble_eq_true rfl) hl ?_
  refine aw_eqv (lv2 := [(0, .ref x0)]) rfl rfl rfl rfl ?_
  unfold V_X1_undo_0 at hv
  refine aw_aload_n 0 (x := x0) dX1_undo_0 rfl rfl ?_
  obtain ⟨fs, a1, he, hx, hv⟩ := hv
  refine aw_get (v := .ref a1) he rfl in_X1 5 (by decide) q439 (Or.inl rfl) hx dX1_undo_1 ?_
  obtain ⟨⟨fs, he⟩, hv⟩ := hv
  obtain ⟨d2, mc2, ms2, Q, hM, hd9, hc9, hs9, hv, hx⟩ := hv
  refine aw_callF (rest := []) (x := ⟨"java/util/List", "isEmpty", "()Z"⟩) hM he rfl (by decide +kernel : aNoMH ⟨"java/util/List", "isEmpty", "()Z"⟩ 0) (by decide +kernel) q1698 q1703 q1701 q125 q1705 dX1_undo_4 rfl hd9 (by decide) (Nat.le_of_ble_eq_true rfl) hc9 hs9 ?_ ?_
  rotate_left
  · exact fun E h2 q => aX_out (hx E h2 q) rfl hc9 hs9
  intro v9 h3 hq
  have hv := hv v9 h3 hq
  obtain ⟨y2, rfl, hv⟩ := hv
  refine aw_eqv (pc2 := 9) (st2 := [.int y2]) rfl rfl rfl rfl ?_
  revert hv hc9 hs9; generalize 0 + mc2 = c4; generalize 0 + ms2 = s5; intro hc9 hs9 hv
  have J9 : AW l G mX1_undo d mc ms P 17 [(0, .ref x0)] [.int (if y2 = 0 then (1 : Int32) else 0)] h3 c4 s5 := by
    obtain ⟨d2, mc2, ms2, Q, hM, hd9, hc9, hs9, hv, hx⟩ := hv
    refine aw_callS (rest := []) hM nX1_checkState q1406 q1407 q119 q1408 dX1_undo_17 rfl hd9 (by decide) (Nat.le_of_ble_eq_true rfl) hc9 hs9 ?_ ?_
    rotate_left
    · exact fun E h2 q => aX_out (hx E h2 q) rfl hc9 hs9
    intro v9 h8 hq
    have hv := hv v9 h8 hq
    obtain ⟨rfl, hv⟩ := hv
    refine aw_eqv (pc2 := 20) (st2 := []) rfl rfl rfl rfl ?_
    revert hv hc9 hs9; generalize c4 + mc2 = c9; generalize s5 + ms2 = s10; intro hc9 hs9 hv
    refine aw_aload_n 0 (x := x0) dX1_undo_20 rfl rfl ?_
    obtain ⟨fs, a11, he, hx, hv⟩ := hv
    refine aw_get (v := .ref a11) he rfl in_X1 0 (by decide) q434 (Or.inl rfl) hx dX1_undo_21 ?_
    refine aw_aload_n 0 (x := x0) dX1_undo_24 rfl rfl ?_
    obtain ⟨fs, a12, he, hx, hv⟩ := hv
    refine aw_get (v := .ref a12) he rfl in_X1 5 (by decide) q439 (Or.inl rfl) hx dX1_undo_25 ?_
    refine aw_aload_n 0 (x := x0) dX1_undo_28 rfl rfl ?_
    obtain ⟨fs, a13, he, hx, hv⟩ := hv
    refine aw_get (v := .ref a13) he rfl in_X1 5 (by decide) q439 (Or.inl rfl) hx dX1_undo_29 ?_
    obtain ⟨⟨fs, he⟩, hv⟩ := hv
    obtain ⟨d2, mc2, ms2, Q, hM, hd9, hc9, hs9, hv, hx⟩ := hv
    refine aw_callF (rest := [.ref a12, .ref a11]) (x := ⟨"java/util/List", "size", "()I"⟩) hM he rfl (by decide +kernel : aNoMH ⟨"java/util/List", "size", "()I"⟩ 0) (by decide +kernel) q469 q474 q472 q125 q476 dX1_undo_32 rfl hd9 (by decide) (Nat.le_of_ble_eq_true rfl) hc9 hs9 ?_ ?_
    rotate_left
    · exact fun E h2 q => aX_out (hx E h2 q) rfl hc9 hs9
    intro v9 h15 hq
    have hv := hv v9 h15 hq
    obtain ⟨y14, rfl, hv⟩ := hv
    refine aw_eqv (pc2 := 37) (st2 := [.int y14, .ref a12, .ref a11]) rfl rfl rfl rfl ?_
    revert hv hc9 hs9; generalize c9 + mc2 = c16; generalize s10 + ms2 = s17; intro hc9 hs9 hv
    refine aw_iconst (v := 1) dX1_undo_37 (by decide) ?_
    refine aw_isub dX1_undo_38 ?_
    obtain ⟨⟨fs, he⟩, hv⟩ := hv
    obtain ⟨d2, mc2, ms2, Q, hM, hd9, hc9, hs9, hv, hx⟩ := hv
    refine aw_callF (rest := [.ref a11]) (x := ⟨"java/util/List", "remove", "(I)Ljava/lang/Object;"⟩) hM he rfl (by decide +kernel : aNoMH ⟨"java/util/List", "remove", "(I)Ljava/lang/Object;"⟩ 1) (by decide +kernel) q478 q483 q481 q125 q485 dX1_undo_39 rfl hd9 (by decide) (Nat.le_of_ble_eq_true rfl) hc9 hs9 ?_ ?_
    rotate_left
    · exact fun E h2 q => aX_out (hx E h2 q) rfl hc9 hs9
    intro v9 h19 hq
    have hv := hv v9 h19 hq
    obtain ⟨a18, rfl, hv⟩ := hv
    refine aw_eqv (pc2 := 44) (st2 := [.ref a18, .ref a11]) rfl rfl rfl rfl ?_
    revert hv hc9 hs9; generalize c16 + mc2 = c20; generalize s17 + ms2 = s21; intro hc9 hs9 hv
    obtain ⟨⟨fs, he⟩, hv⟩ := hv
    refine aw_castO q161 he rfl dX1_undo_44 ?_
    obtain ⟨⟨fs, he⟩, hv⟩ := hv
    obtain ⟨d2, mc2, ms2, Q, hM, hd9, hc9, hs9, hv, hx⟩ := hv
    refine aw_callV (rest := []) hM he rfl rfl nX2_setAll q1706 q504 q505 q120 q506 dX1_undo_47 rfl hd9 (by decide) (Nat.le_of_ble_eq_true rfl) hc9 hs9 ?_ ?_
    rotate_left
    · exact fun E h2 q => aX_out (hx E h2 q) rfl hc9 hs9
    intro v9 h23 hq
    have hv := hv v9 h23 hq
    obtain ⟨rfl, hv⟩ := hv
    refine aw_eqv (pc2 := 50) (st2 := []) rfl rfl rfl rfl ?_
    revert hv hc9 hs9; generalize c20 + mc2 = c24; generalize s21 + ms2 = s25; intro hc9 hs9 hv
    refine aw_aload_n 0 (x := x0) dX1_undo_50 rfl rfl ?_
    obtain ⟨fs, a26, he, hx, hv⟩ := hv
    refine aw_get (v := .ref a26) he rfl in_X1 5 (by decide) q439 (Or.inl rfl) hx dX1_undo_51 ?_
    obtain ⟨⟨fs, he⟩, hv⟩ := hv
    obtain ⟨d2, mc2, ms2, Q, hM, hd9, hc9, hs9, hv, hx⟩ := hv
    refine aw_callF (rest := []) (x := ⟨"java/util/List", "size", "()I"⟩) hM he rfl (by decide +kernel : aNoMH ⟨"java/util/List", "size", "()I"⟩ 0) (by decide +kernel) q469 q474 q472 q125 q476 dX1_undo_54 rfl hd9 (by decide) (Nat.le_of_ble_eq_true rfl) hc9 hs9 ?_ ?_
    rotate_left
    · exact fun E h2 q => aX_out (hx E h2 q) rfl hc9 hs9
    intro v9 h28 hq
    have hv := hv v9 h28 hq
    obtain ⟨y27, rfl, hv⟩ := hv
    refine aw_eqv (pc2 := 59) (st2 := [.int y27]) rfl rfl rfl rfl ?_
    revert hv hc9 hs9; generalize c24 + mc2 = c29; generalize s25 + ms2 = s30; intro hc9 hs9 hv
    exact aw_iret rfl dX1_undo_59 hv hc9 hs9
  refine aw_if_ne 16 dX1_undo_9 (by decide) (fun c6 => ?_) (fun c6 => ?_)
  · have J9 := aw_ifF c6 J9
    refine aw_iconst (v := 0) dX1_undo_16 (by decide) ?_
    exact J9
  · have J9 := aw_ifT c6 J9
    refine aw_iconst (v := 1) dX1_undo_12 (by decide) ?_
    refine aw_goto 17 dX1_undo_13 (by decide) ?_
    exact J9
def V_X1_saveState_0 (l : Launch) (G : aG) (d mc ms : Nat) (P : aR → aH → Prop) (x0 : Nat) (x1 : Int32) (h : aH) : Prop :=
  vC l G mX1_isIn (wsN mX1_isIn) d mc ms [.int x1, .int 0, .int 1] h 0 0 (xP P) (kI fun y1 h2 c3 s4 => 
  vC l G mX1_checkIndex (wsN mX1_checkIndex) d mc ms [.int y1] h2 c3 s4 (xP P) (kV fun h6 c7 s8 => 
  vR h6 x0 1 6 fun a9 =>
  vR h6 x0 1 0 fun a10 =>
  vIs h6 a10 2 (
  vC l G mX2_copy (wsN mX2_copy) d mc ms [.ref a10] h6 c7 s8 (xP P) (kR fun a11 h12 c13 s14 => 
  vStD h12 a9 x1 a11 fun h15 =>
  vR h15 x0 1 1 fun a16 =>
  vIs h15 a16 3 (
  vC l G mX3_told (wsN mX3_told) d mc ms [.ref a16] h15 c13 s14 (xP P) (kI fun y17 h18 c19 s20 => 
  P (.inl (some (.int y17))) h18))))))
set_option maxHeartbeats 4000000 in
theorem A_X1_saveState {l : Launch} {G : aG} {d mc ms : Nat} {P : aR → aH → Prop} {x0 : Nat} {x1 : Int32} {h : aH} (hl : l.stackTraces = false) (hv : V_X1_saveState_0 l G d mc ms P x0 x1 h) : aC l G mX1_saveState (wsN mX1_saveState) d mc ms [.ref x0, .int x1] h P := by
  refine aC_ofF (M := mX1_saveState) rfl pX1_saveState (Nat.le_of_ble_eq_true rfl) hl ?_
  refine aw_eqv (lv2 := [(0, .ref x0), (1, .int x1)]) rfl rfl rfl rfl ?_
  unfold V_X1_saveState_0 at hv
  refine aw_iload_n 1 dX1_saveState_0 rfl rfl ?_
  refine aw_iconst (v := 0) dX1_saveState_1 (by decide) ?_
  refine aw_iconst (v := 1) dX1_saveState_2 (by decide) ?_
  obtain ⟨d2, mc2, ms2, Q, hM, hd9, hc9, hs9, hv, hx⟩ := hv
  refine aw_callS (rest := []) hM nX1_isIn q1338 q1239 q119 q1240 dX1_saveState_3 rfl hd9 (by decide) (Nat.le_of_ble_eq_true rfl) hc9 hs9 ?_ ?_
  rotate_left
  · exact fun E h2 q => aX_out (hx E h2 q) rfl hc9 hs9
  intro v9 h2 hq
  have hv := hv v9 h2 hq
  obtain ⟨y1, rfl, hv⟩ := hv
  refine aw_eqv (pc2 := 6) (st2 := [.int y1]) rfl rfl rfl rfl ?_
  revert hv hc9 hs9; generalize 0 + mc2 = c3; generalize 0 + ms2 = s4; intro hc9 hs9 hv
  obtain ⟨d2, mc2, ms2, Q, hM, hd9, hc9, hs9, hv, hx⟩ := hv
  refine aw_callS (rest := []) hM nX1_checkIndex q1372 q1373 q119 q1374 dX1_saveState_6 rfl hd9 (by decide) (Nat.le_of_ble_eq_true rfl) hc9 hs9 ?_ ?_
  rotate_left
  · exact fun E h2 q => aX_out (hx E h2 q) rfl hc9 hs9
  intro v9 h6 hq
  have hv := hv v9 h6 hq
  obtain ⟨rfl, hv⟩ := hv
  refine aw_eqv (pc2 := 9) (st2 := []) rfl rfl rfl rfl ?_
  revert hv hc9 hs9; generalize c3 + mc2 = c7; generalize s4 + ms2 = s8; intro hc9 hs9 hv
  refine aw_aload_n 0 (x := x0) dX1_saveState_9 rfl rfl ?_
  obtain ⟨fs, a9, he, hx, hv⟩ := hv
  refine aw_get (v := .ref a9) he rfl in_X1 6 (by decide) q440 (Or.inl rfl) hx dX1_saveState_10 ?_
  refine aw_iload_n 1 dX1_saveState_13 rfl rfl ?_
  refine aw_aload_n 0 (x := x0) dX1_saveState_14 rfl rfl ?_
  obtain ⟨fs, a10, he, hx, hv⟩ := hv
  refine aw_get (v := .ref a10) he rfl in_X1 0 (by decide) q434 (Or.inl rfl) hx dX1_saveState_15 ?_
  obtain ⟨⟨fs, he⟩, hv⟩ := hv
  obtain ⟨d2, mc2, ms2, Q, hM, hd9, hc9, hs9, hv, hx⟩ := hv
  refine aw_callV (rest := [.int x1, .ref a9]) hM he rfl rfl nX2_copy q497 q498 q499 q120 q500 dX1_saveState_18 rfl hd9 (by decide) (Nat.le_of_ble_eq_true rfl) hc9 hs9 ?_ ?_
  rotate_left
  · exact fun E h2 q => aX_out (hx E h2 q) rfl hc9 hs9
  intro v9 h12 hq
  have hv := hv v9 h12 hq
  obtain ⟨a11, rfl, hv⟩ := hv
  refine aw_eqv (pc2 := 21) (st2 := [.ref a11, .int x1, .ref a9]) rfl rfl rfl rfl ?_
  revert hv hc9 hs9; generalize c7 + mc2 = c13; generalize s8 + ms2 = s14; intro hc9 hs9 hv
  obtain ⟨n9, f9, fs9, he, hin, hz, hv⟩ := hv
  refine aw_aast 6 rfl he hin (aDk_any hz) rfl dX1_saveState_21 ?_
  revert hv; generalize aUp h12 a9 (aRefs (.object "EdgeLetters$Desk") n9 (va_up f9 (x1).toNatClampNeg (some a11))) = h15; intro hv
  refine aw_aload_n 0 (x := x0) dX1_saveState_22 rfl rfl ?_
  obtain ⟨fs, a16, he, hx, hv⟩ := hv
  refine aw_get (v := .ref a16) he rfl in_X1 1 (by decide) q435 (Or.inl rfl) hx dX1_saveState_23 ?_
  obtain ⟨⟨fs, he⟩, hv⟩ := hv
  obtain ⟨d2, mc2, ms2, Q, hM, hd9, hc9, hs9, hv, hx⟩ := hv
  refine aw_callV (rest := []) hM he rfl rfl nX3_told q562 q563 q564 q121 q565 dX1_saveState_26 rfl hd9 (by decide) (Nat.le_of_ble_eq_true rfl) hc9 hs9 ?_ ?_
  rotate_left
  · exact fun E h2 q => aX_out (hx E h2 q) rfl hc9 hs9
  intro v9 h18 hq
  have hv := hv v9 h18 hq
  obtain ⟨y17, rfl, hv⟩ := hv
  refine aw_eqv (pc2 := 29) (st2 := [.int y17]) rfl rfl rfl rfl ?_
  revert hv hc9 hs9; generalize c13 + mc2 = c19; generalize s14 + ms2 = s20; intro hc9 hs9 hv
  exact aw_iret rfl dX1_saveState_29 hv hc9 hs9
def T_X1_loadState_23 (l : Launch) (G : aG) (d mc ms : Nat) (P : aR → aH → Prop) (x0 : Nat) (x1 : Int32) (xs0 : Int32) (h : aH) (c s : Nat) : Prop := c ≤ mc → s ≤ ms → AW l G mX1_loadState d mc ms P 23 [(0, .ref x0), (1, .int x1)] [.int xs0] h c s
def V_X1_loadState_23 (l : Launch) (G : aG) (d mc ms : Nat) (P : aR → aH → Prop) (x0 : Nat) (x1 : Int32) (xs0 : Int32) (h : aH) (c s : Nat) : Prop :=
  vC l G mX1_checkState (wsN mX1_checkState) d mc ms [.int xs0] h c s (xP P) (kV fun h2 c3 s4 => 
  vIs h2 x0 1 (
  vC l G mX1_recordIf (wsN mX1_recordIf) d mc ms [.ref x0, .int 1] h2 c3 s4 (xP P) (kV fun h6 c7 s8 => 
  vR h6 x0 1 0 fun a9 =>
  vR h6 x0 1 6 fun a10 =>
  vAO (.object "EdgeLetters$Desk") h6 a10 x1 fun a11 =>
  vIs h6 a9 2 (
  vC l G mX2_setAll (wsN mX2_setAll) d mc ms [.ref a9, va_rf a11] h6 c7 s8 (xP P) (kV fun h13 c14 s15 => 
  vR h13 x0 1 1 fun a16 =>
  vIs h13 a16 3 (
  vC l G mX3_told (wsN mX3_told) d mc ms [.ref a16] h13 c14 s15 (xP P) (kI fun y17 h18 c19 s20 => 
  P (.inl (some (.int y17))) h18)))))))
set_option maxHeartbeats 4000000 in
theorem A_X1_loadState_23 {l : Launch} {G : aG} {d mc ms : Nat} {P : aR → aH → Prop} {x0 : Nat} {x1 : Int32} {xs0 : Int32} {h : aH} {c s : Nat} (hl : l.stackTraces = false) (hv : V_X1_loadState_23 l G d mc ms P x0 x1 xs0 h c s) : T_X1_loadState_23 l G d mc ms P x0 x1 xs0 h c s := by
  intro hc hs
  unfold V_X1_loadState_23 at hv
  obtain ⟨d2, mc2, ms2, Q, hM, hd9, hc9, hs9, hv, hx⟩ := hv
  refine aw_callS (rest := []) hM nX1_checkState q1406 q1407 q119 q1408 dX1_loadState_23 rfl hd9 (by decide) (Nat.le_of_ble_eq_true rfl) hc9 hs9 ?_ ?_
  rotate_left
  · exact fun E h2 q => aX_out (hx E h2 q) rfl hc9 hs9
  intro v9 h2 hq
  have hv := hv v9 h2 hq
  obtain ⟨rfl, hv⟩ := hv
  refine aw_eqv (pc2 := 26) (st2 := []) rfl rfl rfl rfl ?_
  revert hv hc9 hs9; generalize c + mc2 = c3; generalize s + ms2 = s4; intro hc9 hs9 hv
  refine aw_aload_n 0 (x := x0) dX1_loadState_26 rfl rfl ?_
  refine aw_iconst (v := 1) dX1_loadState_27 (by decide) ?_
  obtain ⟨⟨fs, he⟩, hv⟩ := hv
  obtain ⟨d2, mc2, ms2, Q, hM, hd9, hc9, hs9, hv, hx⟩ := hv
  refine aw_callV (rest := []) hM he rfl rfl nX1_recordIf q464 q466 qs6 q119 q467 dX1_loadState_28 rfl hd9 (by decide) (Nat.le_of_ble_eq_true rfl) hc9 hs9 ?_ ?_
  rotate_left
  · exact fun E h2 q => aX_out (hx E h2 q) rfl hc9 hs9
  intro v9 h6 hq
  have hv := hv v9 h6 hq
  obtain ⟨rfl, hv⟩ := hv
  refine aw_eqv (pc2 := 31) (st2 := []) rfl rfl rfl rfl ?_
  revert hv hc9 hs9; generalize c3 + mc2 = c7; generalize s4 + ms2 = s8; intro hc9 hs9 hv
  refine aw_aload_n 0 (x := x0) dX1_loadState_31 rfl rfl ?_
  obtain ⟨fs, a9, he, hx, hv⟩ := hv
  refine aw_get (v := .ref a9) he rfl in_X1 0 (by decide) q434 (Or.inl rfl) hx dX1_loadState_32 ?_
  refine aw_aload_n 0 (x := x0) dX1_loadState_35 rfl rfl ?_
  obtain ⟨fs, a10, he, hx, hv⟩ := hv
  refine aw_get (v := .ref a10) he rfl in_X1 6 (by decide) q440 (Or.inl rfl) hx dX1_loadState_36 ?_
  refine aw_iload_n 1 dX1_loadState_39 rfl rfl ?_
  obtain ⟨n9, f9, he, hin, hv⟩ := hv
  refine aw_aald 6 rfl rfl he hin dX1_loadState_40 ?_
  revert hv; generalize f9 (x1).toNatClampNeg = a11; intro hv
  obtain ⟨⟨fs, he⟩, hv⟩ := hv
  obtain ⟨d2, mc2, ms2, Q, hM, hd9, hc9, hs9, hv, hx⟩ := hv
  refine aw_callV (rest := []) hM he rfl rfl nX2_setAll q1706 q504 q505 q120 q506 dX1_loadState_41 rfl hd9 (by decide) (Nat.le_of_ble_eq_true rfl) hc9 hs9 ?_ ?_
  rotate_left
  · exact fun E h2 q => aX_out (hx E h2 q) rfl hc9 hs9
  intro v9 h13 hq
  have hv := hv v9 h13 hq
  obtain ⟨rfl, hv⟩ := hv
  refine aw_eqv (pc2 := 44) (st2 := []) rfl rfl rfl rfl ?_
  revert hv hc9 hs9; generalize c7 + mc2 = c14; generalize s8 + ms2 = s15; intro hc9 hs9 hv
  refine aw_aload_n 0 (x := x0) dX1_loadState_44 rfl rfl ?_
  obtain ⟨fs, a16, he, hx, hv⟩ := hv
  refine aw_get (v := .ref a16) he rfl in_X1 1 (by decide) q435 (Or.inl rfl) hx dX1_loadState_45 ?_
  obtain ⟨⟨fs, he⟩, hv⟩ := hv
  obtain ⟨d2, mc2, ms2, Q, hM, hd9, hc9, hs9, hv, hx⟩ := hv
  refine aw_callV (rest := []) hM he rfl rfl nX3_told q562 q563 q564 q121 q565 dX1_loadState_48 rfl hd9 (by decide) (Nat.le_of_ble_eq_true rfl) hc9 hs9 ?_ ?_
  rotate_left
  · exact fun E h2 q => aX_out (hx E h2 q) rfl hc9 hs9
  intro v9 h18 hq
  have hv := hv v9 h18 hq
  obtain ⟨y17, rfl, hv⟩ := hv
  refine aw_eqv (pc2 := 51) (st2 := [.int y17]) rfl rfl rfl rfl ?_
  revert hv hc9 hs9; generalize c14 + mc2 = c19; generalize s15 + ms2 = s20; intro hc9 hs9 hv
  exact aw_iret rfl dX1_loadState_51 hv hc9 hs9
def V_X1_loadState_0 (l : Launch) (G : aG) (d mc ms : Nat) (P : aR → aH → Prop) (x0 : Nat) (x1 : Int32) (h : aH) : Prop :=
  vC l G mX1_isIn (wsN mX1_isIn) d mc ms [.int x1, .int 0, .int 1] h 0 0 (xP P) (kI fun y21 h22 c23 s24 => 
  vC l G mX1_checkIndex (wsN mX1_checkIndex) d mc ms [.int y21] h22 c23 s24 (xP P) (kV fun h26 c27 s28 => 
  vR h26 x0 1 6 fun a29 =>
  vAO (.object "EdgeLetters$Desk") h26 a29 x1 fun a30 =>
  (a30 = none → 
    T_X1_loadState_23 l G d mc ms P x0 x1 0 h26 c27 s28
    ) ∧ (∀ q31, a30 = some q31 → 
    T_X1_loadState_23 l G d mc ms P x0 x1 1 h26 c27 s28
    )))
set_option maxHeartbeats 4000000 in
theorem A_X1_loadState {l : Launch} {G : aG} {d mc ms : Nat} {P : aR → aH → Prop} {x0 : Nat} {x1 : Int32} {h : aH} (hl : l.stackTraces = false) (hv : V_X1_loadState_0 l G d mc ms P x0 x1 h) : aC l G mX1_loadState (wsN mX1_loadState) d mc ms [.ref x0, .int x1] h P := by
  refine aC_ofF (M := mX1_loadState) rfl pX1_loadState (Nat.le_of_ble_eq_true rfl) hl ?_
  refine aw_eqv (lv2 := [(0, .ref x0), (1, .int x1)]) rfl rfl rfl rfl ?_
  unfold V_X1_loadState_0 at hv
  refine aw_iload_n 1 dX1_loadState_0 rfl rfl ?_
  refine aw_iconst (v := 0) dX1_loadState_1 (by decide) ?_
  refine aw_iconst (v := 1) dX1_loadState_2 (by decide) ?_
  obtain ⟨d2, mc2, ms2, Q, hM, hd9, hc9, hs9, hv, hx⟩ := hv
  refine aw_callS (rest := []) hM nX1_isIn q1338 q1239 q119 q1240 dX1_loadState_3 rfl hd9 (by decide) (Nat.le_of_ble_eq_true rfl) hc9 hs9 ?_ ?_
  rotate_left
  · exact fun E h2 q => aX_out (hx E h2 q) rfl hc9 hs9
  intro v9 h22 hq
  have hv := hv v9 h22 hq
  obtain ⟨y21, rfl, hv⟩ := hv
  refine aw_eqv (pc2 := 6) (st2 := [.int y21]) rfl rfl rfl rfl ?_
  revert hv hc9 hs9; generalize 0 + mc2 = c23; generalize 0 + ms2 = s24; intro hc9 hs9 hv
  obtain ⟨d2, mc2, ms2, Q, hM, hd9, hc9, hs9, hv, hx⟩ := hv
  refine aw_callS (rest := []) hM nX1_checkIndex q1372 q1373 q119 q1374 dX1_loadState_6 rfl hd9 (by decide) (Nat.le_of_ble_eq_true rfl) hc9 hs9 ?_ ?_
  rotate_left
  · exact fun E h2 q => aX_out (hx E h2 q) rfl hc9 hs9
  intro v9 h26 hq
  have hv := hv v9 h26 hq
  obtain ⟨rfl, hv⟩ := hv
  refine aw_eqv (pc2 := 9) (st2 := []) rfl rfl rfl rfl ?_
  revert hv hc9 hs9; generalize c23 + mc2 = c27; generalize s24 + ms2 = s28; intro hc9 hs9 hv
  refine aw_aload_n 0 (x := x0) dX1_loadState_9 rfl rfl ?_
  obtain ⟨fs, a29, he, hx, hv⟩ := hv
  refine aw_get (v := .ref a29) he rfl in_X1 6 (by decide) q440 (Or.inl rfl) hx dX1_loadState_10 ?_
  refine aw_iload_n 1 dX1_loadState_13 rfl rfl ?_
  obtain ⟨n9, f9, he, hin, hv⟩ := hv
  refine aw_aald 6 rfl rfl he hin dX1_loadState_14 ?_
  revert hv; generalize f9 (x1).toNatClampNeg = a30; intro hv
  refine aw_ifnull 22 dX1_loadState_15 (by decide) (fun c32 => ?_) (fun q31 c32 => ?_)
  · have hv := hv.1 c32
    refine aw_iconst (v := 0) dX1_loadState_22 (by decide) ?_
    exact hv hc9 hs9
  · have hv := hv.2 q31 c32
    refine aw_eqv (lv2 := [(0, .ref x0), (1, .int x1)]) (st2 := []) rfl (by first | rfl | (rw [c32]; rfl)) (by first | rfl | (rw [c32]; rfl)) rfl ?_
    refine aw_iconst (v := 1) dX1_loadState_18 (by decide) ?_
    refine aw_goto 23 dX1_loadState_19 (by decide) ?_
    exact hv hc9 hs9
