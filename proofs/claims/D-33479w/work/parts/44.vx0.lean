/-! model made, wrappers of the law (printed by gen2.py) -/
set_option maxRecDepth 100000
def V_X6_init_0 (l : Launch) (G : aG) (d mc ms : Nat) (P : aR → aH → Prop) (x0 : Nat) (h : aH) : Prop :=
  1 ≤ d ∧
  vNewA .int h (432 : Int32) mc ms 0 0 fun a1 h2 c3 s4 => h a1 = none →
  vPut h2 x0 0 0 (.ref a1) fun h6 =>
  vNewA .boolean h6 (2 : Int32) mc ms c3 s4 fun a7 h8 c9 s10 => h6 a7 = none →
  vPut h8 x0 0 2 (.ref a7) fun h12 =>
  vNewA .char h12 (80 : Int32) mc ms c9 s10 fun a13 h14 c15 s16 => h12 a13 = none →
  vPut h14 x0 0 3 (.ref a13) fun h18 =>
  vNewA .int h18 (605 : Int32) mc ms c15 s16 fun a19 h20 c21 s22 => h18 a19 = none →
  vPut h20 x0 0 13 (.ref a19) fun h24 =>
  vNewA .int h24 (480 : Int32) mc ms c21 s22 fun a25 h26 c27 s28 => h24 a25 = none →
  vPut h26 x0 0 14 (.ref a25) fun h30 =>
  vNewA .int h30 (750 : Int32) mc ms c27 s28 fun a31 h32 c33 s34 => h30 a31 = none →
  vPut h32 x0 0 15 (.ref a31) fun h36 =>
  vNewA .int h36 (5 : Int32) mc ms c33 s34 fun a37 h38 c39 s40 => h36 a37 = none →
  vPut h38 x0 0 16 (.ref a37) fun h42 =>
  vNewA .int h42 (60 : Int32) mc ms c39 s40 fun a43 h44 c45 s46 => h42 a43 = none →
  vPut h44 x0 0 17 (.ref a43) fun h48 =>
  vNewA .int h48 (27 : Int32) mc ms c45 s46 fun a49 h50 c51 s52 => h48 a49 = none →
  vPut h50 x0 0 18 (.ref a49) fun h54 =>
  vNewA .int h54 (27 : Int32) mc ms c51 s52 fun a55 h56 c57 s58 => h54 a55 = none →
  vPut h56 x0 0 19 (.ref a55) fun h60 =>
  vNewA .int h60 (25 : Int32) mc ms c57 s58 fun a61 h62 c63 s64 => h60 a61 = none →
  vPut h62 x0 0 20 (.ref a61) fun h66 =>
  vNewA .int h66 (16 : Int32) mc ms c63 s64 fun a67 h68 c69 s70 => h66 a67 = none →
  vPut h68 x0 0 22 (.ref a67) fun h72 =>
  vNewA .int h72 (16 : Int32) mc ms c69 s70 fun a73 h74 c75 s76 => h72 a73 = none →
  vPut h74 x0 0 23 (.ref a73) fun h78 =>
  vIs h78 x0 0 (
  vC l G mX6_begins (wsN mX6_begins) d mc ms [.ref x0, .int 4, .int 3] h78 c75 s76 (xP P) (kI fun y79 h80 c81 s82 => 
  P (.inl none) h80))
set_option maxHeartbeats 4000000 in
theorem A_X6_init {l : Launch} {G : aG} {d mc ms : Nat} {P : aR → aH → Prop} {x0 : Nat} {h : aH} (hl : l.stackTraces = false) (hv : V_X6_init_0 l G d mc ms P x0 h) : aC l G mX6_init (wsN mX6_init) d mc ms [.ref x0] h P := by
  refine aC_ofF (M := mX6_init) rfl pX6_init (Nat.le_of_ble_eq_true rfl) hl ?_
  refine aw_eqv (lv2 := [(0, .ref x0)]) rfl rfl rfl rfl ?_
  unfold V_X6_init_0 at hv
  refine aw_aload_n 0 (x := x0) dX6_init_0 rfl rfl ?_
  obtain ⟨hd9, hv⟩ := hv
  refine aw_objInit q1726 q159 q160 hd9 (Nat.le_of_ble_eq_true rfl) dX6_init_1 ?_
  refine aw_aload_n 0 (x := x0) dX6_init_4 rfl rfl ?_
  refine aw_sipush (v := 432) dX6_init_5 (by decide) ?_
  obtain ⟨N9, hn9, hN9, hb9, hc9, hs9, hv⟩ := hv
  refine aw_newa (atype := .int) (ty := .int) (a0 := (N9, .inl fun _ => 0)) rfl 0 rfl q215 (fun _ => rfl) hn9 hN9 (by show _ * 4 ≤ _; omega) (fun _ _ h9 => h9) hc9 hs9 dX6_init_8 (fun a1 g5 => ?_)
  have hv := hv a1 g5 g5
  refine aw_eqv (pc2 := 10) (st2 := [.ref a1, .ref x0]) rfl rfl rfl rfl ?_
  revert hv hc9 hs9; generalize aUp h a1 (.inl (.int, (N9, .inl fun _ => 0))) = h2; generalize 0 + 1 = c3; generalize 0 + N9 = s4; intro hc9 hs9 hv
  obtain ⟨fs, he, hk9, hv⟩ := hv
  refine aw_putF he rfl in_X6 tyX6_ok nmX6 0 (by decide) q1739 (Or.inl rfl) rfl rfl rfl rfl rfl hk9 rfl dX6_init_10 ?_
  revert hv; generalize aUp h2 x0 (.inr (0, fs.set 0 (.ref a1))) = h6; intro hv
  refine aw_aload_n 0 (x := x0) dX6_init_13 rfl rfl ?_
  refine aw_iconst (v := 2) dX6_init_14 (by decide) ?_
  obtain ⟨N9, hn9, hN9, hb9, hc9, hs9, hv⟩ := hv
  refine aw_newa (atype := .boolean) (ty := .boolean) (a0 := (N9, .inl fun _ => 0)) rfl 1 rfl q1812 (fun _ => rfl) hn9 hN9 (by show _ * 1 ≤ _; omega) (fun _ _ h9 => h9) hc9 hs9 dX6_init_15 (fun a7 g11 => ?_)
  have hv := hv a7 g11 g11
  refine aw_eqv (pc2 := 17) (st2 := [.ref a7, .ref x0]) rfl rfl rfl rfl ?_
  revert hv hc9 hs9; generalize aUp h6 a7 (.inl (.boolean, (N9, .inl fun _ => 0))) = h8; generalize c3 + 1 = c9; generalize s4 + N9 = s10; intro hc9 hs9 hv
  obtain ⟨fs, he, hk9, hv⟩ := hv
  refine aw_putF he rfl in_X6 tyX6_ok nmX6 2 (by decide) q1741 (Or.inl rfl) rfl rfl rfl rfl rfl hk9 rfl dX6_init_17 ?_
  revert hv; generalize aUp h8 x0 (.inr (0, fs.set 2 (.ref a7))) = h12; intro hv
  refine aw_aload_n 0 (x := x0) dX6_init_20 rfl rfl ?_
  refine aw_bipush (v := 80) dX6_init_21 (by decide) ?_
  obtain ⟨N9, hn9, hN9, hb9, hc9, hs9, hv⟩ := hv
  refine aw_newa (atype := .char) (ty := .char) (a0 := (N9, .inl fun _ => 0)) rfl 2 rfl q1813 (fun _ => rfl) hn9 hN9 (by show _ * 2 ≤ _; omega) (fun _ _ h9 => h9) hc9 hs9 dX6_init_23 (fun a13 g17 => ?_)
  have hv := hv a13 g17 g17
  refine aw_eqv (pc2 := 25) (st2 := [.ref a13, .ref x0]) rfl rfl rfl rfl ?_
  revert hv hc9 hs9; generalize aUp h12 a13 (.inl (.char, (N9, .inl fun _ => 0))) = h14; generalize c9 + 1 = c15; generalize s10 + N9 = s16; intro hc9 hs9 hv
  obtain ⟨fs, he, hk9, hv⟩ := hv
  refine aw_putF he rfl in_X6 tyX6_ok nmX6 3 (by decide) q1742 (Or.inl rfl) rfl rfl rfl rfl rfl hk9 rfl dX6_init_25 ?_
  revert hv; generalize aUp h14 x0 (.inr (0, fs.set 3 (.ref a13))) = h18; intro hv
  refine aw_aload_n 0 (x := x0) dX6_init_28 rfl rfl ?_
  refine aw_sipush (v := 605) dX6_init_29 (by decide) ?_
  obtain ⟨N9, hn9, hN9, hb9, hc9, hs9, hv⟩ := hv
  refine aw_newa (atype := .int) (ty := .int) (a0 := (N9, .inl fun _ => 0)) rfl 0 rfl q215 (fun _ => rfl) hn9 hN9 (by show _ * 4 ≤ _; omega) (fun _ _ h9 => h9) hc9 hs9 dX6_init_32 (fun a19 g23 => ?_)
  have hv := hv a19 g23 g23
  refine aw_eqv (pc2 := 34) (st2 := [.ref a19, .ref x0]) rfl rfl rfl rfl ?_
  revert hv hc9 hs9; generalize aUp h18 a19 (.inl (.int, (N9, .inl fun _ => 0))) = h20; generalize c15 + 1 = c21; generalize s16 + N9 = s22; intro hc9 hs9 hv
  obtain ⟨fs, he, hk9, hv⟩ := hv
  refine aw_putF he rfl in_X6 tyX6_ok nmX6 13 (by decide) q1752 (Or.inl rfl) rfl rfl rfl rfl rfl hk9 rfl dX6_init_34 ?_
  revert hv; generalize aUp h20 x0 (.inr (0, fs.set 13 (.ref a19))) = h24; intro hv
  refine aw_aload_n 0 (x := x0) dX6_init_37 rfl rfl ?_
  refine aw_sipush (v := 480) dX6_init_38 (by decide) ?_
  obtain ⟨N9, hn9, hN9, hb9, hc9, hs9, hv⟩ := hv
  refine aw_newa (atype := .int) (ty := .int) (a0 := (N9, .inl fun _ => 0)) rfl 0 rfl q215 (fun _ => rfl) hn9 hN9 (by show _ * 4 ≤ _; omega) (fun _ _ h9 => h9) hc9 hs9 dX6_init_41 (fun a25 g29 => ?_)
  have hv := hv a25 g29 g29
  refine aw_eqv (pc2 := 43) (st2 := [.ref a25, .ref x0]) rfl rfl rfl rfl ?_
  revert hv hc9 hs9; generalize aUp h24 a25 (.inl (.int, (N9, .inl fun _ => 0))) = h26; generalize c21 + 1 = c27; generalize s22 + N9 = s28; intro hc9 hs9 hv
  obtain ⟨fs, he, hk9, hv⟩ := hv
  refine aw_putF he rfl in_X6 tyX6_ok nmX6 14 (by decide) q1753 (Or.inl rfl) rfl rfl rfl rfl rfl hk9 rfl dX6_init_43 ?_
  revert hv; generalize aUp h26 x0 (.inr (0, fs.set 14 (.ref a25))) = h30; intro hv
  refine aw_aload_n 0 (x := x0) dX6_init_46 rfl rfl ?_
  refine aw_sipush (v := 750) dX6_init_47 (by decide) ?_
  obtain ⟨N9, hn9, hN9, hb9, hc9, hs9, hv⟩ := hv
  refine aw_newa (atype := .int) (ty := .int) (a0 := (N9, .inl fun _ => 0)) rfl 0 rfl q215 (fun _ => rfl) hn9 hN9 (by show _ * 4 ≤ _; omega) (fun _ _ h9 => h9) hc9 hs9 dX6_init_50 (fun a31 g35 => ?_)
  have hv := hv a31 g35 g35
  refine aw_eqv (pc2 := 52) (st2 := [.ref a31, .ref x0]) rfl rfl rfl rfl ?_
  revert hv hc9 hs9; generalize aUp h30 a31 (.inl (.int, (N9, .inl fun _ => 0))) = h32; generalize c27 + 1 = c33; generalize s28 + N9 = s34; intro hc9 hs9 hv
  obtain ⟨fs, he, hk9, hv⟩ := hv
  refine aw_putF he rfl in_X6 tyX6_ok nmX6 15 (by decide) q1754 (Or.inl rfl) rfl rfl rfl rfl rfl hk9 rfl dX6_init_52 ?_
  revert hv; generalize aUp h32 x0 (.inr (0, fs.set 15 (.ref a31))) = h36; intro hv
  refine aw_aload_n 0 (x := x0) dX6_init_55 rfl rfl ?_
  refine aw_iconst (v := 5) dX6_init_56 (by decide) ?_
  obtain ⟨N9, hn9, hN9, hb9, hc9, hs9, hv⟩ := hv
  refine aw_newa (atype := .int) (ty := .int) (a0 := (N9, .inl fun _ => 0)) rfl 0 rfl q215 (fun _ => rfl) hn9 hN9 (by show _ * 4 ≤ _; omega) (fun _ _ h9 => h9) hc9 hs9 dX6_init_57 (fun a37 g41 => ?_)
  have hv := hv a37 g41 g41
  refine aw_eqv (pc2 := 59) (st2 := [.ref a37, .ref x0]) rfl rfl rfl rfl ?_
  revert hv hc9 hs9; generalize aUp h36 a37 (.inl (.int, (N9, .inl fun _ => 0))) = h38; generalize c33 + 1 = c39; generalize s34 + N9 = s40; intro hc9 hs9 hv
  obtain ⟨fs, he, hk9, hv⟩ := hv
  refine aw_putF he rfl in_X6 tyX6_ok nmX6 16 (by decide) q1755 (Or.inl rfl) rfl rfl rfl rfl rfl hk9 rfl dX6_init_59 ?_
  revert hv; generalize aUp h38 x0 (.inr (0, fs.set 16 (.ref a37))) = h42; intro hv
  refine aw_aload_n 0 (x := x0) dX6_init_62 rfl rfl ?_
  refine aw_bipush (v := 60) dX6_init_63 (by decide) ?_
  obtain ⟨N9, hn9, hN9, hb9, hc9, hs9, hv⟩ := hv
  refine aw_newa (atype := .int) (ty := .int) (a0 := (N9, .inl fun _ => 0)) rfl 0 rfl q215 (fun _ => rfl) hn9 hN9 (by show _ * 4 ≤ _; omega) (fun _ _ h9 => h9) hc9 hs9 dX6_init_65 (fun a43 g47 => ?_)
  have hv := hv a43 g47 g47
  refine aw_eqv (pc2 := 67) (st2 := [.ref a43, .ref x0]) rfl rfl rfl rfl ?_
  revert hv hc9 hs9; generalize aUp h42 a43 (.inl (.int, (N9, .inl fun _ => 0))) = h44; generalize c39 + 1 = c45; generalize s40 + N9 = s46; intro hc9 hs9 hv
  obtain ⟨fs, he, hk9, hv⟩ := hv
  refine aw_putF he rfl in_X6 tyX6_ok nmX6 17 (by decide) q1756 (Or.inl rfl) rfl rfl rfl rfl rfl hk9 rfl dX6_init_67 ?_
  revert hv; generalize aUp h44 x0 (.inr (0, fs.set 17 (.ref a43))) = h48; intro hv
  refine aw_aload_n 0 (x := x0) dX6_init_70 rfl rfl ?_
  refine aw_bipush (v := 27) dX6_init_71 (by decide) ?_
  obtain ⟨N9, hn9, hN9, hb9, hc9, hs9, hv⟩ := hv
  refine aw_newa (atype := .int) (ty := .int) (a0 := (N9, .inl fun _ => 0)) rfl 0 rfl q215 (fun _ => rfl) hn9 hN9 (by show _ * 4 ≤ _; omega) (fun _ _ h9 => h9) hc9 hs9 dX6_init_73 (fun a49 g53 => ?_)
  have hv := hv a49 g53 g53
  refine aw_eqv (pc2 := 75) (st2 := [.ref a49, .ref x0]) rfl rfl rfl rfl ?_
  revert hv hc9 hs9; generalize aUp h48 a49 (.inl (.int, (N9, .inl fun _ => 0))) = h50; generalize c45 + 1 = c51; generalize s46 + N9 = s52; intro hc9 hs9 hv
  obtain ⟨fs, he, hk9, hv⟩ := hv
  refine aw_putF he rfl in_X6 tyX6_ok nmX6 18 (by decide) q1757 (Or.inl rfl) rfl rfl rfl rfl rfl hk9 rfl dX6_init_75 ?_
  revert hv; generalize aUp h50 x0 (.inr (0, fs.set 18 (.ref a49))) = h54; intro hv
  refine aw_aload_n 0 (x := x0) dX6_init_78 rfl rfl ?_
  refine aw_bipush (v := 27) dX6_init_79 (by decide) ?_
  obtain ⟨N9, hn9, hN9, hb9, hc9, hs9, hv⟩ := hv
  refine aw_newa (atype := .int) (ty := .int) (a0 := (N9, .inl fun _ => 0)) rfl 0 rfl q215 (fun _ => rfl) hn9 hN9 (by show _ * 4 ≤ _; omega) (fun _ _ h9 => h9) hc9 hs9 dX6_init_81 (fun a55 g59 => ?_)
  have hv := hv a55 g59 g59
  refine aw_eqv (pc2 := 83) (st2 := [.ref a55, .ref x0]) rfl rfl rfl rfl ?_
  revert hv hc9 hs9; generalize aUp h54 a55 (.inl (.int, (N9, .inl fun _ => 0))) = h56; generalize c51 + 1 = c57; generalize s52 + N9 = s58; intro hc9 hs9 hv
  obtain ⟨fs, he, hk9, hv⟩ := hv
  refine aw_putF he rfl in_X6 tyX6_ok nmX6 19 (by decide) q1758 (Or.inl rfl) rfl rfl rfl rfl rfl hk9 rfl dX6_init_83 ?_
  revert hv; generalize aUp h56 x0 (.inr (0, fs.set 19 (.ref a55))) = h60; intro hv
  refine aw_aload_n 0 (x := x0) dX6_init_86 rfl rfl ?_
  refine aw_bipush (v := 25) dX6_init_87 (by decide) ?_
  obtain ⟨N9, hn9, hN9, hb9, hc9, hs9, hv⟩ := hv
  refine aw_newa (atype := .int) (ty := .int) (a0 := (N9, .inl fun _ => 0)) rfl 0 rfl q215 (fun _ => rfl) hn9 hN9 (by show _ * 4 ≤ _; omega) (fun _ _ h9 => h9) hc9 hs9 dX6_init_89 (fun a61 g65 => ?_)
  have hv := hv a61 g65 g65
  refine aw_eqv (pc2 := 91) (st2 := [.ref a61, .ref x0]) rfl rfl rfl rfl ?_
  revert hv hc9 hs9; generalize aUp h60 a61 (.inl (.int, (N9, .inl fun _ => 0))) = h62; generalize c57 + 1 = c63; generalize s58 + N9 = s64; intro hc9 hs9 hv
  obtain ⟨fs, he, hk9, hv⟩ := hv
  refine aw_putF he rfl in_X6 tyX6_ok nmX6 20 (by decide) q1759 (Or.inl rfl) rfl rfl rfl rfl rfl hk9 rfl dX6_init_91 ?_
  revert hv; generalize aUp h62 x0 (.inr (0, fs.set 20 (.ref a61))) = h66; intro hv
  refine aw_aload_n 0 (x := x0) dX6_init_94 rfl rfl ?_
  refine aw_bipush (v := 16) dX6_init_95 (by decide) ?_
  obtain ⟨N9, hn9, hN9, hb9, hc9, hs9, hv⟩ := hv
  refine aw_newa (atype := .int) (ty := .int) (a0 := (N9, .inl fun _ => 0)) rfl 0 rfl q215 (fun _ => rfl) hn9 hN9 (by show _ * 4 ≤ _; omega) (fun _ _ h9 => h9) hc9 hs9 dX6_init_97 (fun a67 g71 => ?_)
  have hv := hv a67 g71 g71
  refine aw_eqv (pc2 := 99) (st2 := [.ref a67, .ref x0]) rfl rfl rfl rfl ?_
  revert hv hc9 hs9; generalize aUp h66 a67 (.inl (.int, (N9, .inl fun _ => 0))) = h68; generalize c63 + 1 = c69; generalize s64 + N9 = s70; intro hc9 hs9 hv
  obtain ⟨fs, he, hk9, hv⟩ := hv
  refine aw_putF he rfl in_X6 tyX6_ok nmX6 22 (by decide) q1761 (Or.inl rfl) rfl rfl rfl rfl rfl hk9 rfl dX6_init_99 ?_
  revert hv; generalize aUp h68 x0 (.inr (0, fs.set 22 (.ref a67))) = h72; intro hv
  refine aw_aload_n 0 (x := x0) dX6_init_102 rfl rfl ?_
  refine aw_bipush (v := 16) dX6_init_103 (by decide) ?_
  obtain ⟨N9, hn9, hN9, hb9, hc9, hs9, hv⟩ := hv
  refine aw_newa (atype := .int) (ty := .int) (a0 := (N9, .inl fun _ => 0)) rfl 0 rfl q215 (fun _ => rfl) hn9 hN9 (by show _ * 4 ≤ _; omega) (fun _ _ h9 => h9) hc9 hs9 dX6_init_105 (fun a73 g77 => ?_)
  have hv := hv a73 g77 g77
  refine aw_eqv (pc2 := 107) (st2 := [.ref a73, .ref x0]) rfl rfl rfl rfl ?_
  revert hv hc9 hs9; generalize aUp h72 a73 (.inl (.int, (N9, .inl fun _ => 0))) = h74; generalize c69 + 1 = c75; generalize s70 + N9 = s76; intro hc9 hs9 hv
  obtain ⟨fs, he, hk9, hv⟩ := hv
  refine aw_putF he rfl in_X6 tyX6_ok nmX6 23 (by decide) q1762 (Or.inl rfl) rfl rfl rfl rfl rfl hk9 rfl dX6_init_107 ?_
  revert hv; generalize aUp h74 x0 (.inr (0, fs.set 23 (.ref a73))) = h78; intro hv
  refine aw_aload_n 0 (x := x0) dX6_init_110 rfl rfl ?_
  refine aw_iconst (v := 4) dX6_init_111 (by decide) ?_
  refine aw_iconst (v := 3) dX6_init_112 (by decide) ?_
  obtain ⟨⟨fs, he⟩, hv⟩ := hv
  obtain ⟨d2, mc2, ms2, Q, hM, hd9, hc9, hs9, hv, hx⟩ := hv
  refine aw_callV (rest := []) hM he rfl rfl nX6_begins q1727 q1729 qs52 q137 q1730 dX6_init_113 rfl hd9 (by decide) (Nat.le_of_ble_eq_true rfl) hc9 hs9 ?_ ?_
  rotate_left
  · exact fun E h2 q => aX_out (hx E h2 q) rfl hc9 hs9
  intro v9 h80 hq
  have hv := hv v9 h80 hq
  obtain ⟨y79, rfl, hv⟩ := hv
  refine aw_eqv (pc2 := 116) (st2 := [.int y79]) rfl rfl rfl rfl ?_
  revert hv hc9 hs9; generalize c75 + mc2 = c81; generalize s76 + ms2 = s82; intro hc9 hs9 hv
  refine aw_pop dX6_init_116 rfl ?_
  exact aw_vret rfl dX6_init_117 hv hc9 hs9
def T_X0_start_13 (l : Launch) (G : aG) (d mc ms : Nat) (P : aR → aH → Prop) (xs0 : Nat) (h : aH) (c s : Nat) : Prop := c ≤ mc → s ≤ ms → AW l G mX0_start d mc ms P 13 [] [.ref xs0] h c s
def V_X0_start_13 (l : Launch) (G : aG) (d mc ms : Nat) (P : aR → aH → Prop) (xs0 : Nat) (h : aH) (c s : Nat) : Prop :=
  P (.inl (some (.int 1))) h
set_option maxHeartbeats 4000000 in
theorem A_X0_start_13 {l : Launch} {G : aG} {d mc ms : Nat} {P : aR → aH → Prop} {xs0 : Nat} {h : aH} {c s : Nat} (hl : l.stackTraces = false) (hv : V_X0_start_13 l G d mc ms P xs0 h c s) : T_X0_start_13 l G d mc ms P xs0 h c s := by
  intro hc hs
  unfold V_X0_start_13 at hv
  refine aw_astore (lv' := [(4, .ref xs0)]) dX0_start_13 (Nat.le_of_ble_eq_true rfl) rfl ?_
  refine aw_iconst (v := 1) dX0_start_15 (by decide) ?_
  exact aw_iret rfl dX0_start_16 hv hc hs
def V_X0_start_0 (l : Launch) (G : aG) (d mc ms : Nat) (P : aR → aH → Prop) (x0 : Nat) (x1 : Int32) (x2 : Int32) (x3 : Nat) (h : aH) : Prop :=
  vIs h x0 1 (
  vC l G mX1_start (wsN mX1_start) d mc ms [.ref x0, .int x1, .int x2] h 0 0 (fun E h c s => (E = "java/lang/IllegalArgumentException" ∧ ∀ q, T_X0_start_13 l G d mc ms P q h c s)) (kI fun y1 h2 c3 s4 => 
  vStL h2 x3 (0 : Int32) y1.toInt64 fun h5 =>
  P (.inl (some (.int 0))) h5))
set_option maxHeartbeats 4000000 in
theorem A_X0_start {l : Launch} {G : aG} {d mc ms : Nat} {P : aR → aH → Prop} {x0 : Nat} {x1 : Int32} {x2 : Int32} {x3 : Nat} {h : aH} (hl : l.stackTraces = false) (hv : V_X0_start_0 l G d mc ms P x0 x1 x2 x3 h) : aC l G mX0_start (wsX mX0_start) d mc ms [.ref x0, .int x1, .int x2, .ref x3] h P := by
  refine aC_ofH (M := mX0_start) (by decide) (Nat.le_of_ble_eq_true rfl) hl ?_
  refine aw_eqv (lv2 := [(0, .ref x0), (1, .int x1), (2, .int x2), (3, .ref x3)]) rfl rfl rfl rfl ?_
  unfold V_X0_start_0 at hv
  refine aw_aload_n 3 (x := x3) dX0_start_0 rfl rfl ?_
  refine aw_iconst (v := 0) dX0_start_1 (by decide) ?_
  refine aw_aload_n 0 (x := x0) dX0_start_2 rfl rfl ?_
  refine aw_iload_n 1 dX0_start_3 rfl rfl ?_
  refine aw_iload_n 2 dX0_start_4 rfl rfl ?_
  obtain ⟨⟨fs, he⟩, hv⟩ := hv
  obtain ⟨d2, mc2, ms2, Q, hM, hd9, hc9, hs9, hv, hx⟩ := hv
  refine aw_callV (rest := [.int 0, .ref x3]) hM he rfl rfl nX1_start q1334 q1335 q1336 q119 q1337 dX0_start_5 rfl hd9 (by decide) (Nat.le_of_ble_eq_true rfl) hc9 hs9 ?_ ?_
  rotate_left
  · exact fun E h2 q9 => by
      rcases hx E h2 q9 with ⟨e, hk⟩
      · subst e; exact aX_catch [] ⟨0, 10, 13, 13⟩ [] rfl (fun z hz => by cases hz) (by decide) (by decide) q1333 q1042 (fun q => aw_sub [] rfl ((hk q) hc9 hs9))
  intro v9 h2 hq
  have hv := hv v9 h2 hq
  obtain ⟨y1, rfl, hv⟩ := hv
  refine aw_eqv (pc2 := 8) (st2 := [.int y1, .int 0, .ref x3]) rfl rfl rfl rfl ?_
  revert hv hc9 hs9; generalize 0 + mc2 = c3; generalize 0 + ms2 = s4; intro hc9 hs9 hv
  refine aw_i2l dX0_start_8 ?_
  obtain ⟨n9, f9, he, hin, hv⟩ := hv
  refine aw_last he hin rfl dX0_start_9 ?_
  revert hv; generalize aUp h2 x3 (aLongs n9 (vp_updL f9 ((0 : Int32)).toNatClampNeg y1.toInt64)) = h5; intro hv
  refine aw_goto 17 dX0_start_10 (by decide) ?_
  refine aw_iconst (v := 0) dX0_start_17 (by decide) ?_
  exact aw_iret rfl dX0_start_18 hv hc9 hs9
def T_X0_setTelling_15 (l : Launch) (G : aG) (d mc ms : Nat) (P : aR → aH → Prop) (xs0 : Nat) (h : aH) (c s : Nat) : Prop := c ≤ mc → s ≤ ms → AW l G mX0_setTelling d mc ms P 15 [] [.ref xs0] h c s
def T_X0_setTelling_19 (l : Launch) (G : aG) (d mc ms : Nat) (P : aR → aH → Prop) (xs0 : Nat) (h : aH) (c s : Nat) : Prop := c ≤ mc → s ≤ ms → AW l G mX0_setTelling d mc ms P 19 [] [.ref xs0] h c s
def V_X0_setTelling_15 (l : Launch) (G : aG) (d mc ms : Nat) (P : aR → aH → Prop) (xs0 : Nat) (h : aH) (c s : Nat) : Prop :=
  P (.inl (some (.int 1))) h
set_option maxHeartbeats 4000000 in
theorem A_X0_setTelling_15 {l : Launch} {G : aG} {d mc ms : Nat} {P : aR → aH → Prop} {xs0 : Nat} {h : aH} {c s : Nat} (hl : l.stackTraces = false) (hv : V_X0_setTelling_15 l G d mc ms P xs0 h c s) : T_X0_setTelling_15 l G d mc ms P xs0 h c s := by
  intro hc hs
  unfold V_X0_setTelling_15 at hv
  refine aw_astore (lv' := [(5, .ref xs0)]) dX0_setTelling_15 (Nat.le_of_ble_eq_true rfl) rfl ?_
  refine aw_iconst (v := 1) dX0_setTelling_17 (by decide) ?_
  exact aw_iret rfl dX0_setTelling_18 hv hc hs
def V_X0_setTelling_19 (l : Launch) (G : aG) (d mc ms : Nat) (P : aR → aH → Prop) (xs0 : Nat) (h : aH) (c s : Nat) : Prop :=
  P (.inl (some (.int 2))) h
set_option maxHeartbeats 4000000 in
theorem A_X0_setTelling_19 {l : Launch} {G : aG} {d mc ms : Nat} {P : aR → aH → Prop} {xs0 : Nat} {h : aH} {c s : Nat} (hl : l.stackTraces = false) (hv : V_X0_setTelling_19 l G d mc ms P xs0 h c s) : T_X0_setTelling_19 l G d mc ms P xs0 h c s := by
  intro hc hs
  unfold V_X0_setTelling_19 at hv
  refine aw_astore (lv' := [(5, .ref xs0)]) dX0_setTelling_19 (Nat.le_of_ble_eq_true rfl) rfl ?_
  refine aw_iconst (v := 2) dX0_setTelling_21 (by decide) ?_
  exact aw_iret rfl dX0_setTelling_22 hv hc hs
def V_X0_setTelling_0 (l : Launch) (G : aG) (d mc ms : Nat) (P : aR → aH → Prop) (x0 : Nat) (x1 : Int32) (x2 : Int32) (x3 : Int32) (x4 : Nat) (h : aH) : Prop :=
  vIs h x0 1 (
  vC l G mX1_setTelling (wsN mX1_setTelling) d mc ms [.ref x0, .int x1, .int x2, .int x3] h 0 0 (fun E h c s => (E = "java/lang/IndexOutOfBoundsException" ∧ ∀ q, T_X0_setTelling_15 l G d mc ms P q h c s) ∨ (E = "java/lang/IllegalArgumentException" ∧ ∀ q, T_X0_setTelling_19 l G d mc ms P q h c s)) (kI fun y1 h2 c3 s4 => 
  vStL h2 x4 (0 : Int32) y1.toInt64 fun h5 =>
  P (.inl (some (.int 0))) h5))
set_option maxHeartbeats 4000000 in
theorem A_X0_setTelling {l : Launch} {G : aG} {d mc ms : Nat} {P : aR → aH → Prop} {x0 : Nat} {x1 : Int32} {x2 : Int32} {x3 : Int32} {x4 : Nat} {h : aH} (hl : l.stackTraces = false) (hv : V_X0_setTelling_0 l G d mc ms P x0 x1 x2 x3 x4 h) : aC l G mX0_setTelling (wsX mX0_setTelling) d mc ms [.ref x0, .int x1, .int x2, .int x3, .ref x4] h P := by
  refine aC_ofH (M := mX0_setTelling) (by decide) (Nat.le_of_ble_eq_true rfl) hl ?_
  refine aw_eqv (lv2 := [(0, .ref x0), (1, .int x1), (2, .int x2), (3, .int x3), (4, .ref x4)]) rfl rfl rfl rfl ?_
  unfold V_X0_setTelling_0 at hv
  refine aw_aload 4 (x := x4) dX0_setTelling_0 rfl ?_
  refine aw_iconst (v := 0) dX0_setTelling_2 (by decide) ?_
  refine aw_aload_n 0 (x := x0) dX0_setTelling_3 rfl rfl ?_
  refine aw_iload_n 1 dX0_setTelling_4 rfl rfl ?_
  refine aw_iload_n 2 dX0_setTelling_5 rfl rfl ?_
  refine aw_iload_n 3 dX0_setTelling_6 rfl rfl ?_
  obtain ⟨⟨fs, he⟩, hv⟩ := hv
  obtain ⟨d2, mc2, ms2, Q, hM, hd9, hc9, hs9, hv, hx⟩ := hv
  refine aw_callV (rest := [.int 0, .ref x4]) hM he rfl rfl nX1_setTelling q1360 q1361 q1362 q119 q1363 dX0_setTelling_7 rfl hd9 (by decide) (Nat.le_of_ble_eq_true rfl) hc9 hs9 ?_ ?_
  rotate_left
  · exact fun E h2 q9 => by
      rcases hx E h2 q9 with ⟨e, hk⟩ | ⟨e, hk⟩
      · subst e; exact aX_catch [] ⟨0, 12, 15, 19⟩ [⟨0, 12, 19, 13⟩] rfl (fun z hz => by cases hz) (by decide) (by decide) q1357 q1377 (fun q => aw_sub [] rfl ((hk q) hc9 hs9))
      · subst e; exact aX_catch [⟨0, 12, 15, 19⟩] ⟨0, 12, 19, 13⟩ [] rfl (fun z hz => by (rcases List.mem_cons.mp hz with rfl | hz; exact Or.inr ⟨by decide, "java/lang/IndexOutOfBoundsException", q1357, by decide⟩; cases hz)) (by decide) (by decide) q1333 q1042 (fun q => aw_sub [] rfl ((hk q) hc9 hs9))
  intro v9 h2 hq
  have hv := hv v9 h2 hq
  obtain ⟨y1, rfl, hv⟩ := hv
  refine aw_eqv (pc2 := 10) (st2 := [.int y1, .int 0, .ref x4]) rfl rfl rfl rfl ?_
  revert hv hc9 hs9; generalize 0 + mc2 = c3; generalize 0 + ms2 = s4; intro hc9 hs9 hv
  refine aw_i2l dX0_setTelling_10 ?_
  obtain ⟨n9, f9, he, hin, hv⟩ := hv
  refine aw_last he hin rfl dX0_setTelling_11 ?_
  revert hv; generalize aUp h2 x4 (aLongs n9 (vp_updL f9 ((0 : Int32)).toNatClampNeg y1.toInt64)) = h5; intro hv
  refine aw_goto 23 dX0_setTelling_12 (by decide) ?_
  refine aw_iconst (v := 0) dX0_setTelling_23 (by decide) ?_
  exact aw_iret rfl dX0_setTelling_24 hv hc9 hs9
def T_X0_clearTelling_12 (l : Launch) (G : aG) (d mc ms : Nat) (P : aR → aH → Prop) (xs0 : Nat) (h : aH) (c s : Nat) : Prop := c ≤ mc → s ≤ ms → AW l G mX0_clearTelling d mc ms P 12 [] [.ref xs0] h c s
def T_X0_clearTelling_15 (l : Launch) (G : aG) (d mc ms : Nat) (P : aR → aH → Prop) (xs0 : Nat) (h : aH) (c s : Nat) : Prop := c ≤ mc → s ≤ ms → AW l G mX0_clearTelling d mc ms P 15 [] [.ref xs0] h c s
def V_X0_clearTelling_12 (l : Launch) (G : aG) (d mc ms : Nat) (P : aR → aH → Prop) (xs0 : Nat) (h : aH) (c s : Nat) : Prop :=
  P (.inl (some (.int 1))) h
set_option maxHeartbeats 4000000 in
theorem A_X0_clearTelling_12 {l : Launch} {G : aG} {d mc ms : Nat} {P : aR → aH → Prop} {xs0 : Nat} {h : aH} {c s : Nat} (hl : l.stackTraces = false) (hv : V_X0_clearTelling_12 l G d mc ms P xs0 h c s) : T_X0_clearTelling_12 l G d mc ms P xs0 h c s := by
  intro hc hs
  unfold V_X0_clearTelling_12 at hv
  refine aw_astore_n (lv' := [(3, .ref xs0)]) dX0_clearTelling_12 rfl (Nat.le_of_ble_eq_true rfl) rfl ?_
  refine aw_iconst (v := 1) dX0_clearTelling_13 (by decide) ?_
  exact aw_iret rfl dX0_clearTelling_14 hv hc hs
def V_X0_clearTelling_15 (l : Launch) (G : aG) (d mc ms : Nat) (P : aR → aH → Prop) (xs0 : Nat) (h : aH) (c s : Nat) : Prop :=
  P (.inl (some (.int 2))) h
set_option maxHeartbeats 4000000 in
theorem A_X0_clearTelling_15 {l : Launch} {G : aG} {d mc ms : Nat} {P : aR → aH → Prop} {xs0 : Nat} {h : aH} {c s : Nat} (hl : l.stackTraces = false) (hv : V_X0_clearTelling_15 l G d mc ms P xs0 h c s) : T_X0_clearTelling_15 l G d mc ms P xs0 h c s := by
  intro hc hs
  unfold V_X0_clearTelling_15 at hv
  refine aw_astore_n (lv' := [(3, .ref xs0)]) dX0_clearTelling_15 rfl (Nat.le_of_ble_eq_true rfl) rfl ?_
  refine aw_iconst (v := 2) dX0_clearTelling_16 (by decide) ?_
  exact aw_iret rfl dX0_clearTelling_17 hv hc hs
def V_X0_clearTelling_0 (l : Launch) (G : aG) (d mc ms : Nat) (P : aR → aH → Prop) (x0 : Nat) (x1 : Int32) (x2 : Nat) (h : aH) : Prop :=
  vIs h x0 1 (
  vC l G mX1_clearTelling (wsN mX1_clearTelling) d mc ms [.ref x0, .int x1] h 0 0 (fun E h c s => (E = "java/lang/IndexOutOfBoundsException" ∧ ∀ q, T_X0_clearTelling_12 l G d mc ms P q h c s) ∨ (E = "java/lang/IllegalStateException" ∧ ∀ q, T_X0_clearTelling_15 l G d mc ms P q h c s)) (kI fun y1 h2 c3 s4 => 
  vStL h2 x2 (0 : Int32) y1.toInt64 fun h5 =>
  P (.inl (some (.int 0))) h5))
set_option maxHeartbeats 4000000 in
theorem A_X0_clearTelling {l : Launch} {G : aG} {d mc ms : Nat} {P : aR → aH → Prop} {x0 : Nat} {x1 : Int32} {x2 : Nat} {h : aH} (hl : l.stackTraces = false) (hv : V_X0_clearTelling_0 l G d mc ms P x0 x1 x2 h) : aC l G mX0_clearTelling (wsX mX0_clearTelling) d mc ms [.ref x0, .int x1, .ref x2] h P := by
  refine aC_ofH (M := mX0_clearTelling) (by decide) (Nat.le_of_ble_eq_true rfl) hl ?_
  refine aw_eqv (lv2 := [(0, .ref x0), (1, .int x1), (2, .ref x2)]) rfl rfl rfl rfl ?_
  unfold V_X0_clearTelling_0 at hv
  refine aw_aload_n 2 (x := x2) dX0_clearTelling_0 rfl rfl ?_
  refine aw_iconst (v := 0) dX0_clearTelling_1 (by decide) ?_
  refine aw_aload_n 0 (x := x0) dX0_clearTelling_2 rfl rfl ?_
  refine aw_iload_n 1 dX0_clearTelling_3 rfl rfl ?_
  obtain ⟨⟨fs, he⟩, hv⟩ := hv
  obtain ⟨d2, mc2, ms2, Q, hM, hd9, hc9, hs9, hv, hx⟩ := hv
  refine aw_callV (rest := [.int 0, .ref x2]) hM he rfl rfl nX1_clearTelling q1398 q1399 q1400 q119 q1401 dX0_clearTelling_4 rfl hd9 (by decide) (Nat.le_of_ble_eq_true rfl) hc9 hs9 ?_ ?_
  rotate_left
  · exact fun E h2 q9 => by
      rcases hx E h2 q9 with ⟨e, hk⟩ | ⟨e, hk⟩
      · subst e; exact aX_catch [] ⟨0, 9, 12, 19⟩ [⟨0, 9, 15, 25⟩] rfl (fun z hz => by cases hz) (by decide) (by decide) q1357 q1377 (fun q => aw_sub [] rfl ((hk q) hc9 hs9))
      · subst e; exact aX_catch [⟨0, 9, 12, 19⟩] ⟨0, 9, 15, 25⟩ [] rfl (fun z hz => by (rcases List.mem_cons.mp hz with rfl | hz; exact Or.inr ⟨by decide, "java/lang/IndexOutOfBoundsException", q1357, by decide⟩; cases hz)) (by decide) (by decide) q1397 q1411 (fun q => aw_sub [] rfl ((hk q) hc9 hs9))
  intro v9 h2 hq
  have hv := hv v9 h2 hq
  obtain ⟨y1, rfl, hv⟩ := hv
  refine aw_eqv (pc2 := 7) (st2 := [.int y1, .int 0, .ref x2]) rfl rfl rfl rfl ?_
  revert hv hc9 hs9; generalize 0 + mc2 = c3; generalize 0 + ms2 = s4; intro hc9 hs9 hv
  refine aw_i2l dX0_clearTelling_7 ?_
  obtain ⟨n9, f9, he, hin, hv⟩ := hv
  refine aw_last he hin rfl dX0_clearTelling_8 ?_
  revert hv; generalize aUp h2 x2 (aLongs n9 (vp_updL f9 ((0 : Int32)).toNatClampNeg y1.toInt64)) = h5; intro hv
  refine aw_goto 18 dX0_clearTelling_9 (by decide) ?_
  refine aw_iconst (v := 0) dX0_clearTelling_18 (by decide) ?_
  exact aw_iret rfl dX0_clearTelling_19 hv hc9 hs9
def T_X0_exchange_13 (l : Launch) (G : aG) (d mc ms : Nat) (P : aR → aH → Prop) (xs0 : Nat) (h : aH) (c s : Nat) : Prop := c ≤ mc → s ≤ ms → AW l G mX0_exchange d mc ms P 13 [] [.ref xs0] h c s
def V_X0_exchange_13 (l : Launch) (G : aG) (d mc ms : Nat) (P : aR → aH → Prop) (xs0 : Nat) (h : aH) (c s : Nat) : Prop :=
  P (.inl (some (.int 1))) h
set_option maxHeartbeats 4000000 in
theorem A_X0_exchange_13 {l : Launch} {G : aG} {d mc ms : Nat} {P : aR → aH → Prop} {xs0 : Nat} {h : aH} {c s : Nat} (hl : l.stackTraces = false) (hv : V_X0_exchange_13 l G d mc ms P xs0 h c s) : T_X0_exchange_13 l G d mc ms P xs0 h c s := by
  intro hc hs
  unfold V_X0_exchange_13 at hv
  refine aw_astore (lv' := [(4, .ref xs0)]) dX0_exchange_13 (Nat.le_of_ble_eq_true rfl) rfl ?_
  refine aw_iconst (v := 1) dX0_exchange_15 (by decide) ?_
  exact aw_iret rfl dX0_exchange_16 hv hc hs
def V_X0_exchange_0 (l : Launch) (G : aG) (d mc ms : Nat) (P : aR → aH → Prop) (x0 : Nat) (x1 : Int32) (x2 : Int32) (x3 : Nat) (h : aH) : Prop :=
  vIs h x0 1 (
  vC l G mX1_exchange (wsN mX1_exchange) d mc ms [.ref x0, .int x1, .int x2] h 0 0 (fun E h c s => (E = "java/lang/IllegalArgumentException" ∧ ∀ q, T_X0_exchange_13 l G d mc ms P q h c s)) (kI fun y1 h2 c3 s4 => 
  vStL h2 x3 (0 : Int32) y1.toInt64 fun h5 =>
  P (.inl (some (.int 0))) h5))
set_option maxHeartbeats 4000000 in
theorem A_X0_exchange {l : Launch} {G : aG} {d mc ms : Nat} {P : aR → aH → Prop} {x0 : Nat} {x1 : Int32} {x2 : Int32} {x3 : Nat} {h : aH} (hl : l.stackTraces = false) (hv : V_X0_exchange_0 l G d mc ms P x0 x1 x2 x3 h) : aC l G mX0_exchange (wsX mX0_exchange) d mc ms [.ref x0, .int x1, .int x2, .ref x3] h P := by
  refine aC_ofH (M := mX0_exchange) (by decide) (Nat.le_of_ble_eq_true rfl) hl ?_
  refine aw_eqv (lv2 := [(0, .ref x0), (1, .int x1), (2, .int x2), (3, .ref x3)]) rfl rfl rfl rfl ?_
  unfold V_X0_exchange_0 at hv
  refine aw_aload_n 3 (x := x3) dX0_exchange_0 rfl rfl ?_
  refine aw_iconst (v := 0) dX0_exchange_1 (by decide) ?_
  refine aw_aload_n 0 (x := x0) dX0_exchange_2 rfl rfl ?_
  refine aw_iload_n 1 dX0_exchange_3 rfl rfl ?_
  refine aw_iload_n 2 dX0_exchange_4 rfl rfl ?_
  obtain ⟨⟨fs, he⟩, hv⟩ := hv
  obtain ⟨d2, mc2, ms2, Q, hM, hd9, hc9, hs9, hv, hx⟩ := hv
  refine aw_callV (rest := [.int 0, .ref x3]) hM he rfl rfl nX1_exchange q1427 q1428 q1429 q119 q1430 dX0_exchange_5 rfl hd9 (by decide) (Nat.le_of_ble_eq_true rfl) hc9 hs9 ?_ ?_
  rotate_left
  · exact fun E h2 q9 => by
      rcases hx E h2 q9 with ⟨e, hk⟩
      · subst e; exact aX_catch [] ⟨0, 10, 13, 13⟩ [] rfl (fun z hz => by cases hz) (by decide) (by decide) q1333 q1042 (fun q => aw_sub [] rfl ((hk q) hc9 hs9))
  intro v9 h2 hq
  have hv := hv v9 h2 hq
  obtain ⟨y1, rfl, hv⟩ := hv
  refine aw_eqv (pc2 := 8) (st2 := [.int y1, .int 0, .ref x3]) rfl rfl rfl rfl ?_
  revert hv hc9 hs9; generalize 0 + mc2 = c3; generalize 0 + ms2 = s4; intro hc9 hs9 hv
  refine aw_i2l dX0_exchange_8 ?_
  obtain ⟨n9, f9, he, hin, hv⟩ := hv
  refine aw_last he hin rfl dX0_exchange_9 ?_
  revert hv; generalize aUp h2 x3 (aLongs n9 (vp_updL f9 ((0 : Int32)).toNatClampNeg y1.toInt64)) = h5; intro hv
  refine aw_goto 17 dX0_exchange_10 (by decide) ?_
  refine aw_iconst (v := 0) dX0_exchange_17 (by decide) ?_
  exact aw_iret rfl dX0_exchange_18 hv hc9 hs9
def T_X0_tellingAt_12 (l : Launch) (G : aG) (d mc ms : Nat) (P : aR → aH → Prop) (xs0 : Nat) (h : aH) (c s : Nat) : Prop := c ≤ mc → s ≤ ms → AW l G mX0_tellingAt d mc ms P 12 [] [.ref xs0] h c s
def V_X0_tellingAt_12 (l : Launch) (G : aG) (d mc ms : Nat) (P : aR → aH → Prop) (xs0 : Nat) (h : aH) (c s : Nat) : Prop :=
  P (.inl (some (.int 1))) h
set_option maxHeartbeats 4000000 in
theorem A_X0_tellingAt_12 {l : Launch} {G : aG} {d mc ms : Nat} {P : aR → aH → Prop} {xs0 : Nat} {h : aH} {c s : Nat} (hl : l.stackTraces = false) (hv : V_X0_tellingAt_12 l G d mc ms P xs0 h c s) : T_X0_tellingAt_12 l G d mc ms P xs0 h c s := by
  intro hc hs
  unfold V_X0_tellingAt_12 at hv
  refine aw_astore_n (lv' := [(3, .ref xs0)]) dX0_tellingAt_12 rfl (Nat.le_of_ble_eq_true rfl) rfl ?_
  refine aw_iconst (v := 1) dX0_tellingAt_13 (by decide) ?_
  exact aw_iret rfl dX0_tellingAt_14 hv hc hs
def V_X0_tellingAt_0 (l : Launch) (G : aG) (d mc ms : Nat) (P : aR → aH → Prop) (x0 : Nat) (x1 : Int32) (x2 : Nat) (h : aH) : Prop :=
  vIs h x0 1 (
  vC l G mX1_tellingAt (wsN mX1_tellingAt) d mc ms [.ref x0, .int x1] h 0 0 (fun E h c s => (E = "java/lang/IndexOutOfBoundsException" ∧ ∀ q, T_X0_tellingAt_12 l G d mc ms P q h c s)) (kI fun y1 h2 c3 s4 => 
  vStL h2 x2 (0 : Int32) y1.toInt64 fun h5 =>
  P (.inl (some (.int 0))) h5))
set_option maxHeartbeats 4000000 in
theorem A_X0_tellingAt {l : Launch} {G : aG} {d mc ms : Nat} {P : aR → aH → Prop} {x0 : Nat} {x1 : Int32} {x2 : Nat} {h : aH} (hl : l.stackTraces = false) (hv : V_X0_tellingAt_0 l G d mc ms P x0 x1 x2 h) : aC l G mX0_tellingAt (wsX mX0_tellingAt) d mc ms [.ref x0, .int x1, .ref x2] h P := by
  refine aC_ofH (M := mX0_tellingAt) (by decide) (Nat.le_of_ble_eq_true rfl) hl ?_
  refine aw_eqv (lv2 := [(0, .ref x0), (1, .int x1), (2, .ref x2)]) rfl rfl rfl rfl ?_
  unfold V_X0_tellingAt_0 at hv
  refine aw_aload_n 2 (x := x2) dX0_tellingAt_0 rfl rfl ?_
  refine aw_iconst (v := 0) dX0_tellingAt_1 (by decide) ?_
  refine aw_aload_n 0 (x := x0) dX0_tellingAt_2 rfl rfl ?_
  refine aw_iload_n 1 dX0_tellingAt_3 rfl rfl ?_
  obtain ⟨⟨fs, he⟩, hv⟩ := hv
  obtain ⟨d2, mc2, ms2, Q, hM, hd9, hc9, hs9, hv, hx⟩ := hv
  refine aw_callV (rest := [.int 0, .ref x2]) hM he rfl rfl nX1_tellingAt q1442 q1443 q1444 q119 q1445 dX0_tellingAt_4 rfl hd9 (by decide) (Nat.le_of_ble_eq_true rfl) hc9 hs9 ?_ ?_
  rotate_left
  · exact fun E h2 q9 => by
      rcases hx E h2 q9 with ⟨e, hk⟩
      · subst e; exact aX_catch [] ⟨0, 9, 12, 19⟩ [] rfl (fun z hz => by cases hz) (by decide) (by decide) q1357 q1377 (fun q => aw_sub [] rfl ((hk q) hc9 hs9))
  intro v9 h2 hq
  have hv := hv v9 h2 hq
  obtain ⟨y1, rfl, hv⟩ := hv
  refine aw_eqv (pc2 := 7) (st2 := [.int y1, .int 0, .ref x2]) rfl rfl rfl rfl ?_
  revert hv hc9 hs9; generalize 0 + mc2 = c3; generalize 0 + ms2 = s4; intro hc9 hs9 hv
  refine aw_i2l dX0_tellingAt_7 ?_
  obtain ⟨n9, f9, he, hin, hv⟩ := hv
  refine aw_last he hin rfl dX0_tellingAt_8 ?_
  revert hv; generalize aUp h2 x2 (aLongs n9 (vp_updL f9 ((0 : Int32)).toNatClampNeg y1.toInt64)) = h5; intro hv
  refine aw_goto 15 dX0_tellingAt_9 (by decide) ?_
  refine aw_iconst (v := 0) dX0_tellingAt_15 (by decide) ?_
  exact aw_iret rfl dX0_tellingAt_16 hv hc9 hs9
def T_X0_isSecond_19 (l : Launch) (G : aG) (d mc ms : Nat) (P : aR → aH → Prop) (xs0 : Nat) (h : aH) (c s : Nat) : Prop := c ≤ mc → s ≤ ms → AW l G mX0_isSecond d mc ms P 19 [] [.ref xs0] h c s
def V_X0_isSecond_19 (l : Launch) (G : aG) (d mc ms : Nat) (P : aR → aH → Prop) (xs0 : Nat) (h : aH) (c s : Nat) : Prop :=
  P (.inl (some (.int 1))) h
set_option maxHeartbeats 4000000 in
theorem A_X0_isSecond_19 {l : Launch} {G : aG} {d mc ms : Nat} {P : aR → aH → Prop} {xs0 : Nat} {h : aH} {c s : Nat} (hl : l.stackTraces = false) (hv : V_X0_isSecond_19 l G d mc ms P xs0 h c s) : T_X0_isSecond_19 l G d mc ms P xs0 h c s := by
  intro hc hs
  unfold V_X0_isSecond_19 at hv
  refine aw_astore_n (lv' := [(3, .ref xs0)]) dX0_isSecond_19 rfl (Nat.le_of_ble_eq_true rfl) rfl ?_
  refine aw_iconst (v := 1) dX0_isSecond_20 (by decide) ?_
  exact aw_iret rfl dX0_isSecond_21 hv hc hs
def V_X0_isSecond_0 (l : Launch) (G : aG) (d mc ms : Nat) (P : aR → aH → Prop) (x0 : Nat) (x1 : Int32) (x2 : Nat) (h : aH) : Prop :=
  vIs h x0 1 (
  vC l G mX1_isSecond (wsN mX1_isSecond) d mc ms [.ref x0, .int x1] h 0 0 (fun E h c s => (E = "java/lang/IndexOutOfBoundsException" ∧ ∀ q, T_X0_isSecond_19 l G d mc ms P q h c s)) (kI fun y1 h2 c3 s4 => 
  vStL h2 x2 (0 : Int32) (if y1 = 0 then (0 : Int64) else 1) fun h6 =>
  P (.inl (some (.int 0))) h6))
set_option maxHeartbeats 4000000 in
theorem A_X0_isSecond {l : Launch} {G : aG} {d mc ms : Nat} {P : aR → aH → Prop} {x0 : Nat} {x1 : Int32} {x2 : Nat} {h : aH} (hl : l.stackTraces = false) (hv : V_X0_isSecond_0 l G d mc ms P x0 x1 x2 h) : aC l G mX0_isSecond (wsX mX0_isSecond) d mc ms [.ref x0, .int x1, .ref x2] h P := by
  refine aC_ofH (M := mX0_isSecond) (by decide) (Nat.le_of_ble_eq_true rfl) hl ?_
  refine aw_eqv (lv2 := [(0, .ref x0), (1, .int x1), (2, .ref x2)]) rfl rfl rfl rfl ?_
  unfold V_X0_isSecond_0 at hv
  refine aw_aload_n 2 (x := x2) dX0_isSecond_0 rfl rfl ?_
  refine aw_iconst (v := 0) dX0_isSecond_1 (by decide) ?_
  refine aw_aload_n 0 (x := x0) dX0_isSecond_2 rfl rfl ?_
  refine aw_iload_n 1 dX0_isSecond_3 rfl rfl ?_
  obtain ⟨⟨fs, he⟩, hv⟩ := hv
  obtain ⟨d2, mc2, ms2, Q, hM, hd9, hc9, hs9, hv, hx⟩ := hv
  refine aw_callV (rest := [.int 0, .ref x2]) hM he rfl rfl nX1_isSecond q1449 q1450 q1451 q119 q1452 dX0_isSecond_4 rfl hd9 (by decide) (Nat.le_of_ble_eq_true rfl) hc9 hs9 ?_ ?_
  rotate_left
  · exact fun E h2 q9 => by
      rcases hx E h2 q9 with ⟨e, hk⟩
      · subst e; exact aX_catch [] ⟨0, 16, 19, 19⟩ [] rfl (fun z hz => by cases hz) (by decide) (by decide) q1357 q1377 (fun q => aw_sub [] rfl ((hk q) hc9 hs9))
  intro v9 h2 hq
  have hv := hv v9 h2 hq
  obtain ⟨y1, rfl, hv⟩ := hv
  refine aw_eqv (pc2 := 7) (st2 := [.int y1, .int 0, .ref x2]) rfl rfl rfl rfl ?_
  revert hv hc9 hs9; generalize 0 + mc2 = c3; generalize 0 + ms2 = s4; intro hc9 hs9 hv
  have J9 : AW l G mX0_isSecond d mc ms P 15 [(0, .ref x0), (1, .int x1), (2, .ref x2)] [.long (if y1 = 0 then (0 : Int64) else 1), .int 0, .ref x2] h2 c3 s4 := by
    obtain ⟨n9, f9, he, hin, hv⟩ := hv
    refine aw_last he hin rfl dX0_isSecond_15 ?_
    revert hv; generalize aUp h2 x2 (aLongs n9 (vp_updL f9 ((0 : Int32)).toNatClampNeg (if y1 = 0 then (0 : Int64) else 1))) = h6; intro hv
    refine aw_goto 22 dX0_isSecond_16 (by decide) ?_
    refine aw_iconst (v := 0) dX0_isSecond_22 (by decide) ?_
    exact aw_iret rfl dX0_isSecond_23 hv hc9 hs9
  refine aw_if_eq 14 dX0_isSecond_7 (by decide) (fun c5 => ?_) (fun c5 => ?_)
  · have J9 := aw_ifTL c5 J9
    refine aw_lconst (v := 0) dX0_isSecond_14 (by decide) ?_
    exact J9
  · have J9 := aw_ifFL c5 J9
    refine aw_lconst (v := 1) dX0_isSecond_10 (by decide) ?_
    refine aw_goto 15 dX0_isSecond_11 (by decide) ?_
    exact J9
def T_X0_cellOf_13 (l : Launch) (G : aG) (d mc ms : Nat) (P : aR → aH → Prop) (xs0 : Nat) (h : aH) (c s : Nat) : Prop := c ≤ mc → s ≤ ms → AW l G mX0_cellOf d mc ms P 13 [] [.ref xs0] h c s
def V_X0_cellOf_13 (l : Launch) (G : aG) (d mc ms : Nat) (P : aR → aH → Prop) (xs0 : Nat) (h : aH) (c s : Nat) : Prop :=
  P (.inl (some (.int 1))) h
set_option maxHeartbeats 4000000 in
theorem A_X0_cellOf_13 {l : Launch} {G : aG} {d mc ms : Nat} {P : aR → aH → Prop} {xs0 : Nat} {h : aH} {c s : Nat} (hl : l.stackTraces = false) (hv : V_X0_cellOf_13 l G d mc ms P xs0 h c s) : T_X0_cellOf_13 l G d mc ms P xs0 h c s := by
  intro hc hs
  unfold V_X0_cellOf_13 at hv
  refine aw_astore (lv' := [(4, .ref xs0)]) dX0_cellOf_13 (Nat.le_of_ble_eq_true rfl) rfl ?_
  refine aw_iconst (v := 1) dX0_cellOf_15 (by decide) ?_
  exact aw_iret rfl dX0_cellOf_16 hv hc hs
def V_X0_cellOf_0 (l : Launch) (G : aG) (d mc ms : Nat) (P : aR → aH → Prop) (x0 : Nat) (x1 : Int32) (x2 : Int32) (x3 : Nat) (h : aH) : Prop :=
  vIs h x0 1 (
  vC l G mX1_cellOf (wsN mX1_cellOf) d mc ms [.ref x0, .int x1, .int x2] h 0 0 (fun E h c s => (E = "java/lang/IndexOutOfBoundsException" ∧ ∀ q, T_X0_cellOf_13 l G d mc ms P q h c s)) (kI fun y1 h2 c3 s4 => 
  vStL h2 x3 (0 : Int32) y1.toInt64 fun h5 =>
  P (.inl (some (.int 0))) h5))
set_option maxHeartbeats 4000000 in
theorem A_X0_cellOf {l : Launch} {G : aG} {d mc ms : Nat} {P : aR → aH → Prop} {x0 : Nat} {x1 : Int32} {x2 : Int32} {x3 : Nat} {h : aH} (hl : l.stackTraces = false) (hv : V_X0_cellOf_0 l G d mc ms P x0 x1 x2 x3 h) : aC l G mX0_cellOf (wsX mX0_cellOf) d mc ms [.ref x0, .int x1, .int x2, .ref x3] h P := by
  refine aC_ofH (M := mX0_cellOf) (by decide) (Nat.le_of_ble_eq_true rfl) hl ?_
  refine aw_eqv (lv2 := [(0, .ref x0), (1, .int x1), (2, .int x2), (3, .ref x3)]) rfl rfl rfl rfl ?_
  unfold V_X0_cellOf_0 at hv
  refine aw_aload_n 3 (x := x3) dX0_cellOf_0 rfl rfl ?_
  refine aw_iconst (v := 0) dX0_cellOf_1 (by decide) ?_
  refine aw_aload_n 0 (x := x0) dX0_cellOf_2 rfl rfl ?_
  refine aw_iload_n 1 dX0_cellOf_3 rfl rfl ?_
  refine aw_iload_n 2 dX0_cellOf_4 rfl rfl ?_
  obtain ⟨⟨fs, he⟩, hv⟩ := hv
  obtain ⟨d2, mc2, ms2, Q, hM, hd9, hc9, hs9, hv, hx⟩ := hv
  refine aw_callV (rest := [.int 0, .ref x3]) hM he rfl rfl nX1_cellOf q1456 q1457 q1458 q119 q1459 dX0_cellOf_5 rfl hd9 (by decide) (Nat.le_of_ble_eq_true rfl) hc9 hs9 ?_ ?_
  rotate_left
  · exact fun E h2 q9 => by
      rcases hx E h2 q9 with ⟨e, hk⟩
      · subst e; exact aX_catch [] ⟨0, 10, 13, 19⟩ [] rfl (fun z hz => by cases hz) (by decide) (by decide) q1357 q1377 (fun q => aw_sub [] rfl ((hk q) hc9 hs9))
  intro v9 h2 hq
  have hv := hv v9 h2 hq
  obtain ⟨y1, rfl, hv⟩ := hv
  refine aw_eqv (pc2 := 8) (st2 := [.int y1, .int 0, .ref x3]) rfl rfl rfl rfl ?_
  revert hv hc9 hs9; generalize 0 + mc2 = c3; generalize 0 + ms2 = s4; intro hc9 hs9 hv
  refine aw_i2l dX0_cellOf_8 ?_
  obtain ⟨n9, f9, he, hin, hv⟩ := hv
  refine aw_last he hin rfl dX0_cellOf_9 ?_
  revert hv; generalize aUp h2 x3 (aLongs n9 (vp_updL f9 ((0 : Int32)).toNatClampNeg y1.toInt64)) = h5; intro hv
  refine aw_goto 17 dX0_cellOf_10 (by decide) ?_
  refine aw_iconst (v := 0) dX0_cellOf_17 (by decide) ?_
  exact aw_iret rfl dX0_cellOf_18 hv hc9 hs9
def T_X0_put_13 (l : Launch) (G : aG) (d mc ms : Nat) (P : aR → aH → Prop) (xs0 : Nat) (h : aH) (c s : Nat) : Prop := c ≤ mc → s ≤ ms → AW l G mX0_put d mc ms P 13 [] [.ref xs0] h c s
def T_X0_put_17 (l : Launch) (G : aG) (d mc ms : Nat) (P : aR → aH → Prop) (xs0 : Nat) (h : aH) (c s : Nat) : Prop := c ≤ mc → s ≤ ms → AW l G mX0_put d mc ms P 17 [] [.ref xs0] h c s
def V_X0_put_13 (l : Launch) (G : aG) (d mc ms : Nat) (P : aR → aH → Prop) (xs0 : Nat) (h : aH) (c s : Nat) : Prop :=
  P (.inl (some (.int 1))) h
set_option maxHeartbeats 4000000 in
theorem A_X0_put_13 {l : Launch} {G : aG} {d mc ms : Nat} {P : aR → aH → Prop} {xs0 : Nat} {h : aH} {c s : Nat} (hl : l.stackTraces = false) (hv : V_X0_put_13 l G d mc ms P xs0 h c s) : T_X0_put_13 l G d mc ms P xs0 h c s := by
  intro hc hs
  unfold V_X0_put_13 at hv
  refine aw_astore (lv' := [(4, .ref xs0)]) dX0_put_13 (Nat.le_of_ble_eq_true rfl) rfl ?_
  refine aw_iconst (v := 1) dX0_put_15 (by decide) ?_
  exact aw_iret rfl dX0_put_16 hv hc hs
def V_X0_put_17 (l : Launch) (G : aG) (d mc ms : Nat) (P : aR → aH → Prop) (xs0 : Nat) (h : aH) (c s : Nat) : Prop :=
  P (.inl (some (.int 2))) h
set_option maxHeartbeats 4000000 in
theorem A_X0_put_17 {l : Launch} {G : aG} {d mc ms : Nat} {P : aR → aH → Prop} {xs0 : Nat} {h : aH} {c s : Nat} (hl : l.stackTraces = false) (hv : V_X0_put_17 l G d mc ms P xs0 h c s) : T_X0_put_17 l G d mc ms P xs0 h c s := by
  intro hc hs
  unfold V_X0_put_17 at hv
  refine aw_astore (lv' := [(4, .ref xs0)]) dX0_put_17 (Nat.le_of_ble_eq_true rfl) rfl ?_
  refine aw_iconst (v := 2) dX0_put_19 (by decide) ?_
  exact aw_iret rfl dX0_put_20 hv hc hs
def V_X0_put_0 (l : Launch) (G : aG) (d mc ms : Nat) (P : aR → aH → Prop) (x0 : Nat) (x1 : Int32) (x2 : Int32) (x3 : Nat) (h : aH) : Prop :=
  vIs h x0 1 (
  vC l G mX1_put (wsN mX1_put) d mc ms [.ref x0, .int x1, .int x2] h 0 0 (fun E h c s => (E = "java/lang/IndexOutOfBoundsException" ∧ ∀ q, T_X0_put_13 l G d mc ms P q h c s) ∨ (E = "java/lang/IllegalArgumentException" ∧ ∀ q, T_X0_put_17 l G d mc ms P q h c s)) (kI fun y1 h2 c3 s4 => 
  vStL h2 x3 (0 : Int32) y1.toInt64 fun h5 =>
  P (.inl (some (.int 0))) h5))
set_option maxHeartbeats 4000000 in
theorem A_X0_put {l : Launch} {G : aG} {d mc ms : Nat} {P : aR → aH → Prop} {x0 : Nat} {x1 : Int32} {x2 : Int32} {x3 : Nat} {h : aH} (hl : l.stackTraces = false) (hv : V_X0_put_0 l G d mc ms P x0 x1 x2 x3 h) : aC l G mX0_put (wsX mX0_put) d mc ms [.ref x0, .int x1, .int x2, .ref x3] h P := by
  refine aC_ofH (M := mX0_put) (by decide) (Nat.le_of_ble_eq_true rfl) hl ?_
  refine aw_eqv (lv2 := [(0, .ref x0), (1, .int x1), (2, .int x2), (3, .ref x3)]) rfl rfl rfl rfl ?_
  unfold V_X0_put_0 at hv
  refine aw_aload_n 3 (x := x3) dX0_put_0 rfl rfl ?_
  refine aw_iconst (v := 0) dX0_put_1 (by decide) ?_
  refine aw_aload_n 0 (x := x0) dX0_put_2 rfl rfl ?_
  refine aw_iload_n 1 dX0_put_3 rfl rfl ?_
  refine aw_iload_n 2 dX0_put_4 rfl rfl ?_
  obtain ⟨⟨fs, he⟩, hv⟩ := hv
  obtain ⟨d2, mc2, ms2, Q, hM, hd9, hc9, hs9, hv, hx⟩ := hv
  refine aw_callV (rest := [.int 0, .ref x3]) hM he rfl rfl nX1_put q1471 q1472 q1473 q119 q1474 dX0_put_5 rfl hd9 (by decide) (Nat.le_of_ble_eq_true rfl) hc9 hs9 ?_ ?_
  rotate_left
  · exact fun E h2 q9 => by
      rcases hx E h2 q9 with ⟨e, hk⟩ | ⟨e, hk⟩
      · subst e; exact aX_catch [] ⟨0, 10, 13, 19⟩ [⟨0, 10, 17, 13⟩] rfl (fun z hz => by cases hz) (by decide) (by decide) q1357 q1377 (fun q => aw_sub [] rfl ((hk q) hc9 hs9))
      · subst e; exact aX_catch [⟨0, 10, 13, 19⟩] ⟨0, 10, 17, 13⟩ [] rfl (fun z hz => by (rcases List.mem_cons.mp hz with rfl | hz; exact Or.inr ⟨by decide, "java/lang/IndexOutOfBoundsException", q1357, by decide⟩; cases hz)) (by decide) (by decide) q1333 q1042 (fun q => aw_sub [] rfl ((hk q) hc9 hs9))
  intro v9 h2 hq
  have hv := hv v9 h2 hq
  obtain ⟨y1, rfl, hv⟩ := hv
  refine aw_eqv (pc2 := 8) (st2 := [.int y1, .int 0, .ref x3]) rfl rfl rfl rfl ?_
  revert hv hc9 hs9; generalize 0 + mc2 = c3; generalize 0 + ms2 = s4; intro hc9 hs9 hv
  refine aw_i2l dX0_put_8 ?_
  obtain ⟨n9, f9, he, hin, hv⟩ := hv
  refine aw_last he hin rfl dX0_put_9 ?_
  revert hv; generalize aUp h2 x3 (aLongs n9 (vp_updL f9 ((0 : Int32)).toNatClampNeg y1.toInt64)) = h5; intro hv
  refine aw_goto 21 dX0_put_10 (by decide) ?_
  refine aw_iconst (v := 0) dX0_put_21 (by decide) ?_
  exact aw_iret rfl dX0_put_22 hv hc9 hs9
def T_X0_crossOut_13 (l : Launch) (G : aG) (d mc ms : Nat) (P : aR → aH → Prop) (xs0 : Nat) (h : aH) (c s : Nat) : Prop := c ≤ mc → s ≤ ms → AW l G mX0_crossOut d mc ms P 13 [] [.ref xs0] h c s
def T_X0_crossOut_17 (l : Launch) (G : aG) (d mc ms : Nat) (P : aR → aH → Prop) (xs0 : Nat) (h : aH) (c s : Nat) : Prop := c ≤ mc → s ≤ ms → AW l G mX0_crossOut d mc ms P 17 [] [.ref xs0] h c s
def T_X0_crossOut_21 (l : Launch) (G : aG) (d mc ms : Nat) (P : aR → aH → Prop) (xs0 : Nat) (h : aH) (c s : Nat) : Prop := c ≤ mc → s ≤ ms → AW l G mX0_crossOut d mc ms P 21 [] [.ref xs0] h c s
def V_X0_crossOut_13 (l : Launch) (G : aG) (d mc ms : Nat) (P : aR → aH → Prop) (xs0 : Nat) (h : aH) (c s : Nat) : Prop :=
  P (.inl (some (.int 1))) h
set_option maxHeartbeats 4000000 in
theorem A_X0_crossOut_13 {l : Launch} {G : aG} {d mc ms : Nat} {P : aR → aH → Prop} {xs0 : Nat} {h : aH} {c s : Nat} (hl : l.stackTraces = false) (hv : V_X0_crossOut_13 l G d mc ms P xs0 h c s) : T_X0_crossOut_13 l G d mc ms P xs0 h c s := by
  intro hc hs
  unfold V_X0_crossOut_13 at hv
  refine aw_astore (lv' := [(4, .ref xs0)]) dX0_crossOut_13 (Nat.le_of_ble_eq_true rfl) rfl ?_
  refine aw_iconst (v := 1) dX0_crossOut_15 (by decide) ?_
  exact aw_iret rfl dX0_crossOut_16 hv hc hs
def V_X0_crossOut_17 (l : Launch) (G : aG) (d mc ms : Nat) (P : aR → aH → Prop) (xs0 : Nat) (h : aH) (c s : Nat) : Prop :=
  P (.inl (some (.int 2))) h
set_option maxHeartbeats 4000000 in
theorem A_X0_crossOut_17 {l : Launch} {G : aG} {d mc ms : Nat} {P : aR → aH → Prop} {xs0 : Nat} {h : aH} {c s : Nat} (hl : l.stackTraces = false) (hv : V_X0_crossOut_17 l G d mc ms P xs0 h c s) : T_X0_crossOut_17 l G d mc ms P xs0 h c s := by
  intro hc hs
  unfold V_X0_crossOut_17 at hv
  refine aw_astore (lv' := [(4, .ref xs0)]) dX0_crossOut_17 (Nat.le_of_ble_eq_true rfl) rfl ?_
  refine aw_iconst (v := 2) dX0_crossOut_19 (by decide) ?_
  exact aw_iret rfl dX0_crossOut_20 hv hc hs
def V_X0_crossOut_21 (l : Launch) (G : aG) (d mc ms : Nat) (P : aR → aH → Prop) (xs0 : Nat) (h : aH) (c s : Nat) : Prop :=
  P (.inl (some (.int 3))) h
set_option maxHeartbeats 4000000 in
theorem A_X0_crossOut_21 {l : Launch} {G : aG} {d mc ms : Nat} {P : aR → aH → Prop} {xs0 : Nat} {h : aH} {c s : Nat} (hl : l.stackTraces = false) (hv : V_X0_crossOut_21 l G d mc ms P xs0 h c s) : T_X0_crossOut_21 l G d mc ms P xs0 h c s := by
  intro hc hs
  unfold V_X0_crossOut_21 at hv
  refine aw_astore (lv' := [(4, .ref xs0)]) dX0_crossOut_21 (Nat.le_of_ble_eq_true rfl) rfl ?_
  refine aw_iconst (v := 3) dX0_crossOut_23 (by decide) ?_
  exact aw_iret rfl dX0_crossOut_24 hv hc hs
def V_X0_crossOut_0 (l : Launch) (G : aG) (d mc ms : Nat) (P : aR → aH → Prop) (x0 : Nat) (x1 : Int32) (x2 : Int32) (x3 : Nat) (h : aH) : Prop :=
  vIs h x0 1 (
  vC l G mX1_crossOut (wsN mX1_crossOut) d mc ms [.ref x0, .int x1, .int x2] h 0 0 (fun E h c s => (E = "java/lang/IndexOutOfBoundsException" ∧ ∀ q, T_X0_crossOut_13 l G d mc ms P q h c s) ∨ (E = "java/lang/IllegalArgumentException" ∧ ∀ q, T_X0_crossOut_17 l G d mc ms P q h c s) ∨ (E = "java/lang/IllegalStateException" ∧ ∀ q, T_X0_crossOut_21 l G d mc ms P q h c s)) (kI fun y1 h2 c3 s4 => 
  vStL h2 x3 (0 : Int32) y1.toInt64 fun h5 =>
  P (.inl (some (.int 0))) h5))
set_option maxHeartbeats 4000000 in
theorem A_X0_crossOut {l : Launch} {G : aG} {d mc ms : Nat} {P : aR → aH → Prop} {x0 : Nat} {x1 : Int32} {x2 : Int32} {x3 : Nat} {h : aH} (hl : l.stackTraces = false) (hv : V_X0_crossOut_0 l G d mc ms P x0 x1 x2 x3 h) : aC l G mX0_crossOut (wsX mX0_crossOut) d mc ms [.ref x0, .int x1, .int x2, .ref x3] h P := by
  refine aC_ofH (M := mX0_crossOut) (by decide) (Nat.le_of_ble_eq_true rfl) hl ?_
  refine aw_eqv (lv2 := [(0, .ref x0), (1, .int x1), (2, .int x2), (3, .ref x3)]) rfl rfl rfl rfl ?_
  unfold V_X0_crossOut_0 at hv
  refine aw_aload_n 3 (x := x3) dX0_crossOut_0 rfl rfl ?_
  refine aw_iconst (v := 0) dX0_crossOut_1 (by decide) ?_
  refine aw_aload_n 0 (x := x0) dX0_crossOut_2 rfl rfl ?_
  refine aw_iload_n 1 dX0_crossOut_3 rfl rfl ?_
  refine aw_iload_n 2 dX0_crossOut_4 rfl rfl ?_
  obtain ⟨⟨fs, he⟩, hv⟩ := hv
  obtain ⟨d2, mc2, ms2, Q, hM, hd9, hc9, hs9, hv, hx⟩ := hv
  refine aw_callV (rest := [.int 0, .ref x3]) hM he rfl rfl nX1_crossOut q1490 q1491 q1492 q119 q1493 dX0_crossOut_5 rfl hd9 (by decide) (Nat.le_of_ble_eq_true rfl) hc9 hs9 ?_ ?_
  rotate_left
  · exact fun E h2 q9 => by
      rcases hx E h2 q9 with ⟨e, hk⟩ | ⟨e, hk⟩ | ⟨e, hk⟩
      · subst e; exact aX_catch [] ⟨0, 10, 13, 19⟩ [⟨0, 10, 17, 13⟩, ⟨0, 10, 21, 25⟩] rfl (fun z hz => by cases hz) (by decide) (by decide) q1357 q1377 (fun q => aw_sub [] rfl ((hk q) hc9 hs9))
      · subst e; exact aX_catch [⟨0, 10, 13, 19⟩] ⟨0, 10, 17, 13⟩ [⟨0, 10, 21, 25⟩] rfl (fun z hz => by (rcases List.mem_cons.mp hz with rfl | hz; exact Or.inr ⟨by decide, "java/lang/IndexOutOfBoundsException", q1357, by decide⟩; cases hz)) (by decide) (by decide) q1333 q1042 (fun q => aw_sub [] rfl ((hk q) hc9 hs9))
      · subst e; exact aX_catch [⟨0, 10, 13, 19⟩, ⟨0, 10, 17, 13⟩] ⟨0, 10, 21, 25⟩ [] rfl (fun z hz => by (rcases List.mem_cons.mp hz with rfl | hz; exact Or.inr ⟨by decide, "java/lang/IndexOutOfBoundsException", q1357, by decide⟩; rcases List.mem_cons.mp hz with rfl | hz; exact Or.inr ⟨by decide, "java/lang/IllegalArgumentException", q1333, by decide⟩; cases hz)) (by decide) (by decide) q1397 q1411 (fun q => aw_sub [] rfl ((hk q) hc9 hs9))
  intro v9 h2 hq
  have hv := hv v9 h2 hq
  obtain ⟨y1, rfl, hv⟩ := hv
  refine aw_eqv (pc2 := 8) (st2 := [.int y1, .int 0, .ref x3]) rfl rfl rfl rfl ?_
  revert hv hc9 hs9; generalize 0 + mc2 = c3; generalize 0 + ms2 = s4; intro hc9 hs9 hv
  refine aw_i2l dX0_crossOut_8 ?_
  obtain ⟨n9, f9, he, hin, hv⟩ := hv
  refine aw_last he hin rfl dX0_crossOut_9 ?_
  revert hv; generalize aUp h2 x3 (aLongs n9 (vp_updL f9 ((0 : Int32)).toNatClampNeg y1.toInt64)) = h5; intro hv
  refine aw_goto 25 dX0_crossOut_10 (by decide) ?_
  refine aw_iconst (v := 0) dX0_crossOut_25 (by decide) ?_
  exact aw_iret rfl dX0_crossOut_26 hv hc9 hs9
def T_X0_thingsOf_12 (l : Launch) (G : aG) (d mc ms : Nat) (P : aR → aH → Prop) (xs0 : Nat) (h : aH) (c s : Nat) : Prop := c ≤ mc → s ≤ ms → AW l G mX0_thingsOf d mc ms P 12 [] [.ref xs0] h c s
def V_X0_thingsOf_12 (l : Launch) (G : aG) (d mc ms : Nat) (P : aR → aH → Prop) (xs0 : Nat) (h : aH) (c s : Nat) : Prop :=
  P (.inl (some (.int 1))) h
set_option maxHeartbeats 4000000 in
theorem A_X0_thingsOf_12 {l : Launch} {G : aG} {d mc ms : Nat} {P : aR → aH → Prop} {xs0 : Nat} {h : aH} {c s : Nat} (hl : l.stackTraces = false) (hv : V_X0_thingsOf_12 l G d mc ms P xs0 h c s) : T_X0_thingsOf_12 l G d mc ms P xs0 h c s := by
  intro hc hs
  unfold V_X0_thingsOf_12 at hv
  refine aw_astore_n (lv' := [(3, .ref xs0)]) dX0_thingsOf_12 rfl (Nat.le_of_ble_eq_true rfl) rfl ?_
  refine aw_iconst (v := 1) dX0_thingsOf_13 (by decide) ?_
  exact aw_iret rfl dX0_thingsOf_14 hv hc hs
def V_X0_thingsOf_0 (l : Launch) (G : aG) (d mc ms : Nat) (P : aR → aH → Prop) (x0 : Nat) (x1 : Int32) (x2 : Nat) (h : aH) : Prop :=
  vIs h x0 1 (
  vC l G mX1_thingsOf (wsN mX1_thingsOf) d mc ms [.ref x0, .int x1] h 0 0 (fun E h c s => (E = "java/lang/IndexOutOfBoundsException" ∧ ∀ q, T_X0_thingsOf_12 l G d mc ms P q h c s)) (kI fun y1 h2 c3 s4 => 
  vStL h2 x2 (0 : Int32) y1.toInt64 fun h5 =>
  P (.inl (some (.int 0))) h5))
set_option maxHeartbeats 4000000 in
theorem A_X0_thingsOf {l : Launch} {G : aG} {d mc ms : Nat} {P : aR → aH → Prop} {x0 : Nat} {x1 : Int32} {x2 : Nat} {h : aH} (hl : l.stackTraces = false) (hv : V_X0_thingsOf_0 l G d mc ms P x0 x1 x2 h) : aC l G mX0_thingsOf (wsX mX0_thingsOf) d mc ms [.ref x0, .int x1, .ref x2] h P := by
  refine aC_ofH (M := mX0_thingsOf) (by decide) (Nat.le_of_ble_eq_true rfl) hl ?_
  refine aw_eqv (lv2 := [(0, .ref x0), (1, .int x1), (2, .ref x2)]) rfl rfl rfl rfl ?_
  unfold V_X0_thingsOf_0 at hv
  refine aw_aload_n 2 (x := x2) dX0_thingsOf_0 rfl rfl ?_
  refine aw_iconst (v := 0) dX0_thingsOf_1 (by decide) ?_
  refine aw_aload_n 0 (x := x0) dX0_thingsOf_2 rfl rfl ?_
  refine aw_iload_n 1 dX0_thingsOf_3 rfl rfl ?_
  obtain ⟨⟨fs, he⟩, hv⟩ := hv
  obtain ⟨d2, mc2, ms2, Q, hM, hd9, hc9, hs9, hv, hx⟩ := hv
  refine aw_callV (rest := [.int 0, .ref x2]) hM he rfl rfl nX1_thingsOf q1501 q1502 q1503 q119 q1504 dX0_thingsOf_4 rfl hd9 (by decide) (Nat.le_of_ble_eq_true rfl) hc9 hs9 ?_ ?_
  rotate_left
  · exact fun E h2 q9 => by
      rcases hx E h2 q9 with ⟨e, hk⟩
      · subst e; exact aX_catch [] ⟨0, 9, 12, 19⟩ [] rfl (fun z hz => by cases hz) (by decide) (by decide) q1357 q1377 (fun q => aw_sub [] rfl ((hk q) hc9 hs9))
  intro v9 h2 hq
  have hv := hv v9 h2 hq
  obtain ⟨y1, rfl, hv⟩ := hv
  refine aw_eqv (pc2 := 7) (st2 := [.int y1, .int 0, .ref x2]) rfl rfl rfl rfl ?_
  revert hv hc9 hs9; generalize 0 + mc2 = c3; generalize 0 + ms2 = s4; intro hc9 hs9 hv
  refine aw_i2l dX0_thingsOf_7 ?_
  obtain ⟨n9, f9, he, hin, hv⟩ := hv
  refine aw_last he hin rfl dX0_thingsOf_8 ?_
  revert hv; generalize aUp h2 x2 (aLongs n9 (vp_updL f9 ((0 : Int32)).toNatClampNeg y1.toInt64)) = h5; intro hv
  refine aw_goto 15 dX0_thingsOf_9 (by decide) ?_
  refine aw_iconst (v := 0) dX0_thingsOf_15 (by decide) ?_
  exact aw_iret rfl dX0_thingsOf_16 hv hc9 hs9
def T_X0_cellsWith_11 (l : Launch) (G : aG) (d mc ms : Nat) (P : aR → aH → Prop) (xs0 : Nat) (h : aH) (c s : Nat) : Prop := c ≤ mc → s ≤ ms → AW l G mX0_cellsWith d mc ms P 11 [] [.ref xs0] h c s
def V_X0_cellsWith_11 (l : Launch) (G : aG) (d mc ms : Nat) (P : aR → aH → Prop) (xs0 : Nat) (h : aH) (c s : Nat) : Prop :=
  P (.inl (some (.int 1))) h
set_option maxHeartbeats 4000000 in
theorem A_X0_cellsWith_11 {l : Launch} {G : aG} {d mc ms : Nat} {P : aR → aH → Prop} {xs0 : Nat} {h : aH} {c s : Nat} (hl : l.stackTraces = false) (hv : V_X0_cellsWith_11 l G d mc ms P xs0 h c s) : T_X0_cellsWith_11 l G d mc ms P xs0 h c s := by
  intro hc hs
  unfold V_X0_cellsWith_11 at hv
  refine aw_astore_n (lv' := [(3, .ref xs0)]) dX0_cellsWith_11 rfl (Nat.le_of_ble_eq_true rfl) rfl ?_
  refine aw_iconst (v := 1) dX0_cellsWith_12 (by decide) ?_
  exact aw_iret rfl dX0_cellsWith_13 hv hc hs
def V_X0_cellsWith_0 (l : Launch) (G : aG) (d mc ms : Nat) (P : aR → aH → Prop) (x0 : Nat) (x1 : Int32) (x2 : Nat) (h : aH) : Prop :=
  vIs h x0 1 (
  vC l G mX1_cellsWith (wsN mX1_cellsWith) d mc ms [.ref x0, .int x1] h 0 0 (fun E h c s => (E = "java/lang/IllegalArgumentException" ∧ ∀ q, T_X0_cellsWith_11 l G d mc ms P q h c s)) (kL fun y1 h2 c3 s4 => 
  vStL h2 x2 (0 : Int32) y1 fun h5 =>
  P (.inl (some (.int 0))) h5))
set_option maxHeartbeats 4000000 in
theorem A_X0_cellsWith {l : Launch} {G : aG} {d mc ms : Nat} {P : aR → aH → Prop} {x0 : Nat} {x1 : Int32} {x2 : Nat} {h : aH} (hl : l.stackTraces = false) (hv : V_X0_cellsWith_0 l G d mc ms P x0 x1 x2 h) : aC l G mX0_cellsWith (wsX mX0_cellsWith) d mc ms [.ref x0, .int x1, .ref x2] h P := by
  refine aC_ofH (M := mX0_cellsWith) (by decide) (Nat.le_of_ble_eq_true rfl) hl ?_
  refine aw_eqv (lv2 := [(0, .ref x0), (1, .int x1), (2, .ref x2)]) rfl rfl rfl rfl ?_
  unfold V_X0_cellsWith_0 at hv
  refine aw_aload_n 2 (x := x2) dX0_cellsWith_0 rfl rfl ?_
  refine aw_iconst (v := 0) dX0_cellsWith_1 (by decide) ?_
  refine aw_aload_n 0 (x := x0) dX0_cellsWith_2 rfl rfl ?_
  refine aw_iload_n 1 dX0_cellsWith_3 rfl rfl ?_
  obtain ⟨⟨fs, he⟩, hv⟩ := hv
  obtain ⟨d2, mc2, ms2, Q, hM, hd9, hc9, hs9, hv, hx⟩ := hv
  refine aw_callV (rest := [.int 0, .ref x2]) hM he rfl rfl nX1_cellsWith q1508 q1509 q1510 q119 q1511 dX0_cellsWith_4 rfl hd9 (by decide) (Nat.le_of_ble_eq_true rfl) hc9 hs9 ?_ ?_
  rotate_left
  · exact fun E h2 q9 => by
      rcases hx E h2 q9 with ⟨e, hk⟩
      · subst e; exact aX_catch [] ⟨0, 8, 11, 13⟩ [] rfl (fun z hz => by cases hz) (by decide) (by decide) q1333 q1042 (fun q => aw_sub [] rfl ((hk q) hc9 hs9))
  intro v9 h2 hq
  have hv := hv v9 h2 hq
  obtain ⟨y1, rfl, hv⟩ := hv
  refine aw_eqv (pc2 := 7) (st2 := [.long y1, .int 0, .ref x2]) rfl rfl rfl rfl ?_
  revert hv hc9 hs9; generalize 0 + mc2 = c3; generalize 0 + ms2 = s4; intro hc9 hs9 hv
  obtain ⟨n9, f9, he, hin, hv⟩ := hv
  refine aw_last he hin rfl dX0_cellsWith_7 ?_
  revert hv; generalize aUp h2 x2 (aLongs n9 (vp_updL f9 ((0 : Int32)).toNatClampNeg y1)) = h5; intro hv
  refine aw_goto 14 dX0_cellsWith_8 (by decide) ?_
  refine aw_iconst (v := 0) dX0_cellsWith_14 (by decide) ?_
  exact aw_iret rfl dX0_cellsWith_15 hv hc9 hs9
def T_X0_arrangements_12 (l : Launch) (G : aG) (d mc ms : Nat) (P : aR → aH → Prop) (xs0 : Nat) (h : aH) (c s : Nat) : Prop := c ≤ mc → s ≤ ms → AW l G mX0_arrangements d mc ms P 12 [] [.ref xs0] h c s
def V_X0_arrangements_12 (l : Launch) (G : aG) (d mc ms : Nat) (P : aR → aH → Prop) (xs0 : Nat) (h : aH) (c s : Nat) : Prop :=
  P (.inl (some (.int 1))) h
set_option maxHeartbeats 4000000 in
theorem A_X0_arrangements_12 {l : Launch} {G : aG} {d mc ms : Nat} {P : aR → aH → Prop} {xs0 : Nat} {h : aH} {c s : Nat} (hl : l.stackTraces = false) (hv : V_X0_arrangements_12 l G d mc ms P xs0 h c s) : T_X0_arrangements_12 l G d mc ms P xs0 h c s := by
  intro hc hs
  unfold V_X0_arrangements_12 at hv
  refine aw_astore_n (lv' := [(3, .ref xs0)]) dX0_arrangements_12 rfl (Nat.le_of_ble_eq_true rfl) rfl ?_
  refine aw_iconst (v := 1) dX0_arrangements_13 (by decide) ?_
  exact aw_iret rfl dX0_arrangements_14 hv hc hs
def V_X0_arrangements_0 (l : Launch) (G : aG) (d mc ms : Nat) (P : aR → aH → Prop) (x0 : Nat) (x1 : Int32) (x2 : Nat) (h : aH) : Prop :=
  vIs h x0 1 (
  vC l G mX1_arrangements (wsN mX1_arrangements) d mc ms [.ref x0, .int x1] h 0 0 (fun E h c s => (E = "java/lang/IndexOutOfBoundsException" ∧ ∀ q, T_X0_arrangements_12 l G d mc ms P q h c s)) (kI fun y1 h2 c3 s4 => 
  vStL h2 x2 (0 : Int32) y1.toInt64 fun h5 =>
  P (.inl (some (.int 0))) h5))
set_option maxHeartbeats 4000000 in
theorem A_X0_arrangements {l : Launch} {G : aG} {d mc ms : Nat} {P : aR → aH → Prop} {x0 : Nat} {x1 : Int32} {x2 : Nat} {h : aH} (hl : l.stackTraces = false) (hv : V_X0_arrangements_0 l G d mc ms P x0 x1 x2 h) : aC l G mX0_arrangements (wsX mX0_arrangements) d mc ms [.ref x0, .int x1, .ref x2] h P := by
  refine aC_ofH (M := mX0_arrangements) (by decide) (Nat.le_of_ble_eq_true rfl) hl ?_
  refine aw_eqv (lv2 := [(0, .ref x0), (1, .int x1), (2, .ref x2)]) rfl rfl rfl rfl ?_
  unfold V_X0_arrangements_0 at hv
  refine aw_aload_n 2 (x := x2) dX0_arrangements_0 rfl rfl ?_
  refine aw_iconst (v := 0) dX0_arrangements_1 (by decide) ?_
  refine aw_aload_n 0 (x := x0) dX0_arrangements_2 rfl rfl ?_
  refine aw_iload_n 1 dX0_arrangements_3 rfl rfl ?_
  obtain ⟨⟨fs, he⟩, hv⟩ := hv
  obtain ⟨d2, mc2, ms2, Q, hM, hd9, hc9, hs9, hv, hx⟩ := hv
  refine aw_callV (rest := [.int 0, .ref x2]) hM he rfl rfl nX1_arrangements q1515 q1516 q1517 q119 q1518 dX0_arrangements_4 rfl hd9 (by decide) (Nat.le_of_ble_eq_true rfl) hc9 hs9 ?_ ?_
  rotate_left
  · exact fun E h2 q9 => by
      rcases hx E h2 q9 with ⟨e, hk⟩
      · subst e; exact aX_catch [] ⟨0, 9, 12, 19⟩ [] rfl (fun z hz => by cases hz) (by decide) (by decide) q1357 q1377 (fun q => aw_sub [] rfl ((hk q) hc9 hs9))
  intro v9 h2 hq
  have hv := hv v9 h2 hq
  obtain ⟨y1, rfl, hv⟩ := hv
  refine aw_eqv (pc2 := 7) (st2 := [.int y1, .int 0, .ref x2]) rfl rfl rfl rfl ?_
  revert hv hc9 hs9; generalize 0 + mc2 = c3; generalize 0 + ms2 = s4; intro hc9 hs9 hv
  refine aw_i2l dX0_arrangements_7 ?_
  obtain ⟨n9, f9, he, hin, hv⟩ := hv
  refine aw_last he hin rfl dX0_arrangements_8 ?_
  revert hv; generalize aUp h2 x2 (aLongs n9 (vp_updL f9 ((0 : Int32)).toNatClampNeg y1.toInt64)) = h5; intro hv
  refine aw_goto 15 dX0_arrangements_9 (by decide) ?_
  refine aw_iconst (v := 0) dX0_arrangements_15 (by decide) ?_
  exact aw_iret rfl dX0_arrangements_16 hv hc9 hs9
def T_X0_arrangementsByCells_12 (l : Launch) (G : aG) (d mc ms : Nat) (P : aR → aH → Prop) (xs0 : Nat) (h : aH) (c s : Nat) : Prop := c ≤ mc → s ≤ ms → AW l G mX0_arrangementsByCells d mc ms P 12 [] [.ref xs0] h c s
def V_X0_arrangementsByCells_12 (l : Launch) (G : aG) (d mc ms : Nat) (P : aR → aH → Prop) (xs0 : Nat) (h : aH) (c s : Nat) : Prop :=
  P (.inl (some (.int 1))) h
set_option maxHeartbeats 4000000 in
theorem A_X0_arrangementsByCells_12 {l : Launch} {G : aG} {d mc ms : Nat} {P : aR → aH → Prop} {xs0 : Nat} {h : aH} {c s : Nat} (hl : l.stackTraces = false) (hv : V_X0_arrangementsByCells_12 l G d mc ms P xs0 h c s) : T_X0_arrangementsByCells_12 l G d mc ms P xs0 h c s := by
  intro hc hs
  unfold V_X0_arrangementsByCells_12 at hv
  refine aw_astore_n (lv' := [(3, .ref xs0)]) dX0_arrangementsByCells_12 rfl (Nat.le_of_ble_eq_true rfl) rfl ?_
  refine aw_iconst (v := 1) dX0_arrangementsByCells_13 (by decide) ?_
  exact aw_iret rfl dX0_arrangementsByCells_14 hv hc hs
def V_X0_arrangementsByCells_0 (l : Launch) (G : aG) (d mc ms : Nat) (P : aR → aH → Prop) (x0 : Nat) (x1 : Int32) (x2 : Nat) (h : aH) : Prop :=
  vIs h x0 1 (
  vC l G mX1_arrangementsByCells (wsN mX1_arrangementsByCells) d mc ms [.ref x0, .int x1] h 0 0 (fun E h c s => (E = "java/lang/IndexOutOfBoundsException" ∧ ∀ q, T_X0_arrangementsByCells_12 l G d mc ms P q h c s)) (kI fun y1 h2 c3 s4 => 
  vStL h2 x2 (0 : Int32) y1.toInt64 fun h5 =>
  P (.inl (some (.int 0))) h5))
set_option maxHeartbeats 4000000 in
theorem A_X0_arrangementsByCells {l : Launch} {G : aG} {d mc ms : Nat} {P : aR → aH → Prop} {x0 : Nat} {x1 : Int32} {x2 : Nat} {h : aH} (hl : l.stackTraces = false) (hv : V_X0_arrangementsByCells_0 l G d mc ms P x0 x1 x2 h) : aC l G mX0_arrangementsByCells (wsX mX0_arrangementsByCells) d mc ms [.ref x0, .int x1, .ref x2] h P := by
  refine aC_ofH (M := mX0_arrangementsByCells) (by decide) (Nat.le_of_ble_eq_true rfl) hl ?_
  refine aw_eqv (lv2 := [(0, .ref x0), (1, .int x1), (2, .ref x2)]) rfl rfl rfl rfl ?_
  unfold V_X0_arrangementsByCells_0 at hv
  refine aw_aload_n 2 (x := x2) dX0_arrangementsByCells_0 rfl rfl ?_
  refine aw_iconst (v := 0) dX0_arrangementsByCells_1 (by decide) ?_
  refine aw_aload_n 0 (x := x0) dX0_arrangementsByCells_2 rfl rfl ?_
  refine aw_iload_n 1 dX0_arrangementsByCells_3 rfl rfl ?_
  obtain ⟨⟨fs, he⟩, hv⟩ := hv
  obtain ⟨d2, mc2, ms2, Q, hM, hd9, hc9, hs9, hv, hx⟩ := hv
  refine aw_callV (rest := [.int 0, .ref x2]) hM he rfl rfl nX1_arrangementsByCells q1572 q1573 q1574 q119 q1575 dX0_arrangementsByCells_4 rfl hd9 (by decide) (Nat.le_of_ble_eq_true rfl) hc9 hs9 ?_ ?_
  rotate_left
  · exact fun E h2 q9 => by
      rcases hx E h2 q9 with ⟨e, hk⟩
      · subst e; exact aX_catch [] ⟨0, 9, 12, 19⟩ [] rfl (fun z hz => by cases hz) (by decide) (by decide) q1357 q1377 (fun q => aw_sub [] rfl ((hk q) hc9 hs9))
  intro v9 h2 hq
  have hv := hv v9 h2 hq
  obtain ⟨y1, rfl, hv⟩ := hv
  refine aw_eqv (pc2 := 7) (st2 := [.int y1, .int 0, .ref x2]) rfl rfl rfl rfl ?_
  revert hv hc9 hs9; generalize 0 + mc2 = c3; generalize 0 + ms2 = s4; intro hc9 hs9 hv
  refine aw_i2l dX0_arrangementsByCells_7 ?_
  obtain ⟨n9, f9, he, hin, hv⟩ := hv
  refine aw_last he hin rfl dX0_arrangementsByCells_8 ?_
  revert hv; generalize aUp h2 x2 (aLongs n9 (vp_updL f9 ((0 : Int32)).toNatClampNeg y1.toInt64)) = h5; intro hv
  refine aw_goto 15 dX0_arrangementsByCells_9 (by decide) ?_
  refine aw_iconst (v := 0) dX0_arrangementsByCells_15 (by decide) ?_
  exact aw_iret rfl dX0_arrangementsByCells_16 hv hc9 hs9
def T_X0_thingsIn_13 (l : Launch) (G : aG) (d mc ms : Nat) (P : aR → aH → Prop) (xs0 : Nat) (h : aH) (c s : Nat) : Prop := c ≤ mc → s ≤ ms → AW l G mX0_thingsIn d mc ms P 13 [] [.ref xs0] h c s
def V_X0_thingsIn_13 (l : Launch) (G : aG) (d mc ms : Nat) (P : aR → aH → Prop) (xs0 : Nat) (h : aH) (c s : Nat) : Prop :=
  P (.inl (some (.int 1))) h
set_option maxHeartbeats 4000000 in
theorem A_X0_thingsIn_13 {l : Launch} {G : aG} {d mc ms : Nat} {P : aR → aH → Prop} {xs0 : Nat} {h : aH} {c s : Nat} (hl : l.stackTraces = false) (hv : V_X0_thingsIn_13 l G d mc ms P xs0 h c s) : T_X0_thingsIn_13 l G d mc ms P xs0 h c s := by
  intro hc hs
  unfold V_X0_thingsIn_13 at hv
  refine aw_astore (lv' := [(4, .ref xs0)]) dX0_thingsIn_13 (Nat.le_of_ble_eq_true rfl) rfl ?_
  refine aw_iconst (v := 1) dX0_thingsIn_15 (by decide) ?_
  exact aw_iret rfl dX0_thingsIn_16 hv hc hs
def V_X0_thingsIn_0 (l : Launch) (G : aG) (d mc ms : Nat) (P : aR → aH → Prop) (x0 : Nat) (x1 : Int32) (x2 : Int32) (x3 : Nat) (h : aH) : Prop :=
  vIs h x0 1 (
  vC l G mX1_thingsIn (wsN mX1_thingsIn) d mc ms [.ref x0, .int x1, .int x2] h 0 0 (fun E h c s => (E = "java/lang/IndexOutOfBoundsException" ∧ ∀ q, T_X0_thingsIn_13 l G d mc ms P q h c s)) (kI fun y1 h2 c3 s4 => 
  vStL h2 x3 (0 : Int32) y1.toInt64 fun h5 =>
  P (.inl (some (.int 0))) h5))
set_option maxHeartbeats 4000000 in
theorem A_X0_thingsIn {l : Launch} {G : aG} {d mc ms : Nat} {P : aR → aH → Prop} {x0 : Nat} {x1 : Int32} {x2 : Int32} {x3 : Nat} {h : aH} (hl : l.stackTraces = false) (hv : V_X0_thingsIn_0 l G d mc ms P x0 x1 x2 x3 h) : aC l G mX0_thingsIn (wsX mX0_thingsIn) d mc ms [.ref x0, .int x1, .int x2, .ref x3] h P := by
  refine aC_ofH (M := mX0_thingsIn) (by decide) (Nat.le_of_ble_eq_true rfl) hl ?_
  refine aw_eqv (lv2 := [(0, .ref x0), (1, .int x1), (2, .int x2), (3, .ref x3)]) rfl rfl rfl rfl ?_
  unfold V_X0_thingsIn_0 at hv
  refine aw_aload_n 3 (x := x3) dX0_thingsIn_0 rfl rfl ?_
  refine aw_iconst (v := 0) dX0_thingsIn_1 (by decide) ?_
  refine aw_aload_n 0 (x := x0) dX0_thingsIn_2 rfl rfl ?_
  refine aw_iload_n 1 dX0_thingsIn_3 rfl rfl ?_
  refine aw_iload_n 2 dX0_thingsIn_4 rfl rfl ?_
  obtain ⟨⟨fs, he⟩, hv⟩ := hv
  obtain ⟨d2, mc2, ms2, Q, hM, hd9, hc9, hs9, hv, hx⟩ := hv
  refine aw_callV (rest := [.int 0, .ref x3]) hM he rfl rfl nX1_thingsIn q1584 q1585 q1586 q119 q1587 dX0_thingsIn_5 rfl hd9 (by decide) (Nat.le_of_ble_eq_true rfl) hc9 hs9 ?_ ?_
  rotate_left
  · exact fun E h2 q9 => by
      rcases hx E h2 q9 with ⟨e, hk⟩
      · subst e; exact aX_catch [] ⟨0, 10, 13, 19⟩ [] rfl (fun z hz => by cases hz) (by decide) (by decide) q1357 q1377 (fun q => aw_sub [] rfl ((hk q) hc9 hs9))
  intro v9 h2 hq
  have hv := hv v9 h2 hq
  obtain ⟨y1, rfl, hv⟩ := hv
  refine aw_eqv (pc2 := 8) (st2 := [.int y1, .int 0, .ref x3]) rfl rfl rfl rfl ?_
  revert hv hc9 hs9; generalize 0 + mc2 = c3; generalize 0 + ms2 = s4; intro hc9 hs9 hv
  refine aw_i2l dX0_thingsIn_8 ?_
  obtain ⟨n9, f9, he, hin, hv⟩ := hv
  refine aw_last he hin rfl dX0_thingsIn_9 ?_
  revert hv; generalize aUp h2 x3 (aLongs n9 (vp_updL f9 ((0 : Int32)).toNatClampNeg y1.toInt64)) = h5; intro hv
  refine aw_goto 17 dX0_thingsIn_10 (by decide) ?_
  refine aw_iconst (v := 0) dX0_thingsIn_17 (by decide) ?_
  exact aw_iret rfl dX0_thingsIn_18 hv hc9 hs9
def T_X0_seenFrom_13 (l : Launch) (G : aG) (d mc ms : Nat) (P : aR → aH → Prop) (xs0 : Nat) (h : aH) (c s : Nat) : Prop := c ≤ mc → s ≤ ms → AW l G mX0_seenFrom d mc ms P 13 [] [.ref xs0] h c s
def V_X0_seenFrom_13 (l : Launch) (G : aG) (d mc ms : Nat) (P : aR → aH → Prop) (xs0 : Nat) (h : aH) (c s : Nat) : Prop :=
  P (.inl (some (.int 1))) h
set_option maxHeartbeats 4000000 in
theorem A_X0_seenFrom_13 {l : Launch} {G : aG} {d mc ms : Nat} {P : aR → aH → Prop} {xs0 : Nat} {h : aH} {c s : Nat} (hl : l.stackTraces = false) (hv : V_X0_seenFrom_13 l G d mc ms P xs0 h c s) : T_X0_seenFrom_13 l G d mc ms P xs0 h c s := by
  intro hc hs
  unfold V_X0_seenFrom_13 at hv
  refine aw_astore (lv' := [(4, .ref xs0)]) dX0_seenFrom_13 (Nat.le_of_ble_eq_true rfl) rfl ?_
  refine aw_iconst (v := 1) dX0_seenFrom_15 (by decide) ?_
  exact aw_iret rfl dX0_seenFrom_16 hv hc hs
def V_X0_seenFrom_0 (l : Launch) (G : aG) (d mc ms : Nat) (P : aR → aH → Prop) (x0 : Nat) (x1 : Int32) (x2 : Int32) (x3 : Nat) (h : aH) : Prop :=
  vIs h x0 1 (
  vC l G mX1_seenFrom (wsN mX1_seenFrom) d mc ms [.ref x0, .int x1, .int x2] h 0 0 (fun E h c s => (E = "java/lang/IndexOutOfBoundsException" ∧ ∀ q, T_X0_seenFrom_13 l G d mc ms P q h c s)) (kI fun y1 h2 c3 s4 => 
  vStL h2 x3 (0 : Int32) y1.toInt64 fun h5 =>
  P (.inl (some (.int 0))) h5))
set_option maxHeartbeats 4000000 in
theorem A_X0_seenFrom {l : Launch} {G : aG} {d mc ms : Nat} {P : aR → aH → Prop} {x0 : Nat} {x1 : Int32} {x2 : Int32} {x3 : Nat} {h : aH} (hl : l.stackTraces = false) (hv : V_X0_seenFrom_0 l G d mc ms P x0 x1 x2 x3 h) : aC l G mX0_seenFrom (wsX mX0_seenFrom) d mc ms [.ref x0, .int x1, .int x2, .ref x3] h P := by
  refine aC_ofH (M := mX0_seenFrom) (by decide) (Nat.le_of_ble_eq_true rfl) hl ?_
  refine aw_eqv (lv2 := [(0, .ref x0), (1, .int x1), (2, .int x2), (3, .ref x3)]) rfl rfl rfl rfl ?_
  unfold V_X0_seenFrom_0 at hv
  refine aw_aload_n 3 (x := x3) dX0_seenFrom_0 rfl rfl ?_
  refine aw_iconst (v := 0) dX0_seenFrom_1 (by decide) ?_
  refine aw_aload_n 0 (x := x0) dX0_seenFrom_2 rfl rfl ?_
  refine aw_iload_n 1 dX0_seenFrom_3 rfl rfl ?_
  refine aw_iload_n 2 dX0_seenFrom_4 rfl rfl ?_
  obtain ⟨⟨fs, he⟩, hv⟩ := hv
  obtain ⟨d2, mc2, ms2, Q, hM, hd9, hc9, hs9, hv, hx⟩ := hv
  refine aw_callV (rest := [.int 0, .ref x3]) hM he rfl rfl nX1_seenFrom q1592 q1593 q1594 q119 q1595 dX0_seenFrom_5 rfl hd9 (by decide) (Nat.le_of_ble_eq_true rfl) hc9 hs9 ?_ ?_
  rotate_left
  · exact fun E h2 q9 => by
      rcases hx E h2 q9 with ⟨e, hk⟩
      · subst e; exact aX_catch [] ⟨0, 10, 13, 19⟩ [] rfl (fun z hz => by cases hz) (by decide) (by decide) q1357 q1377 (fun q => aw_sub [] rfl ((hk q) hc9 hs9))
  intro v9 h2 hq
  have hv := hv v9 h2 hq
  obtain ⟨y1, rfl, hv⟩ := hv
  refine aw_eqv (pc2 := 8) (st2 := [.int y1, .int 0, .ref x3]) rfl rfl rfl rfl ?_
  revert hv hc9 hs9; generalize 0 + mc2 = c3; generalize 0 + ms2 = s4; intro hc9 hs9 hv
  refine aw_i2l dX0_seenFrom_8 ?_
  obtain ⟨n9, f9, he, hin, hv⟩ := hv
  refine aw_last he hin rfl dX0_seenFrom_9 ?_
  revert hv; generalize aUp h2 x3 (aLongs n9 (vp_updL f9 ((0 : Int32)).toNatClampNeg y1.toInt64)) = h5; intro hv
  refine aw_goto 17 dX0_seenFrom_10 (by decide) ?_
  refine aw_iconst (v := 0) dX0_seenFrom_17 (by decide) ?_
  exact aw_iret rfl dX0_seenFrom_18 hv hc9 hs9
def T_X0_reasonFor_13 (l : Launch) (G : aG) (d mc ms : Nat) (P : aR → aH → Prop) (xs0 : Nat) (h : aH) (c s : Nat) : Prop := c ≤ mc → s ≤ ms → AW l G mX0_reasonFor d mc ms P 13 [] [.ref xs0] h c s
def T_X0_reasonFor_17 (l : Launch) (G : aG) (d mc ms : Nat) (P : aR → aH → Prop) (xs0 : Nat) (h : aH) (c s : Nat) : Prop := c ≤ mc → s ≤ ms → AW l G mX0_reasonFor d mc ms P 17 [] [.ref xs0] h c s
def V_X0_reasonFor_13 (l : Launch) (G : aG) (d mc ms : Nat) (P : aR → aH → Prop) (xs0 : Nat) (h : aH) (c s : Nat) : Prop :=
  P (.inl (some (.int 1))) h
set_option maxHeartbeats 4000000 in
theorem A_X0_reasonFor_13 {l : Launch} {G : aG} {d mc ms : Nat} {P : aR → aH → Prop} {xs0 : Nat} {h : aH} {c s : Nat} (hl : l.stackTraces = false) (hv : V_X0_reasonFor_13 l G d mc ms P xs0 h c s) : T_X0_reasonFor_13 l G d mc ms P xs0 h c s := by
  intro hc hs
  unfold V_X0_reasonFor_13 at hv
  refine aw_astore (lv' := [(4, .ref xs0)]) dX0_reasonFor_13 (Nat.le_of_ble_eq_true rfl) rfl ?_
  refine aw_iconst (v := 1) dX0_reasonFor_15 (by decide) ?_
  exact aw_iret rfl dX0_reasonFor_16 hv hc hs
def V_X0_reasonFor_17 (l : Launch) (G : aG) (d mc ms : Nat) (P : aR → aH → Prop) (xs0 : Nat) (h : aH) (c s : Nat) : Prop :=
  P (.inl (some (.int 2))) h
set_option maxHeartbeats 4000000 in
theorem A_X0_reasonFor_17 {l : Launch} {G : aG} {d mc ms : Nat} {P : aR → aH → Prop} {xs0 : Nat} {h : aH} {c s : Nat} (hl : l.stackTraces = false) (hv : V_X0_reasonFor_17 l G d mc ms P xs0 h c s) : T_X0_reasonFor_17 l G d mc ms P xs0 h c s := by
  intro hc hs
  unfold V_X0_reasonFor_17 at hv
  refine aw_astore (lv' := [(4, .ref xs0)]) dX0_reasonFor_17 (Nat.le_of_ble_eq_true rfl) rfl ?_
  refine aw_iconst (v := 2) dX0_reasonFor_19 (by decide) ?_
  exact aw_iret rfl dX0_reasonFor_20 hv hc hs
def V_X0_reasonFor_0 (l : Launch) (G : aG) (d mc ms : Nat) (P : aR → aH → Prop) (x0 : Nat) (x1 : Int32) (x2 : Int32) (x3 : Nat) (h : aH) : Prop :=
  vIs h x0 1 (
  vC l G mX1_reasonFor (wsN mX1_reasonFor) d mc ms [.ref x0, .int x1, .int x2] h 0 0 (fun E h c s => (E = "java/lang/IndexOutOfBoundsException" ∧ ∀ q, T_X0_reasonFor_13 l G d mc ms P q h c s) ∨ (E = "java/lang/IllegalArgumentException" ∧ ∀ q, T_X0_reasonFor_17 l G d mc ms P q h c s)) (kI fun y1 h2 c3 s4 => 
  vStL h2 x3 (0 : Int32) y1.toInt64 fun h5 =>
  P (.inl (some (.int 0))) h5))
set_option maxHeartbeats 4000000 in
theorem A_X0_reasonFor {l : Launch} {G : aG} {d mc ms : Nat} {P : aR → aH → Prop} {x0 : Nat} {x1 : Int32} {x2 : Int32} {x3 : Nat} {h : aH} (hl : l.stackTraces = false) (hv : V_X0_reasonFor_0 l G d mc ms P x0 x1 x2 x3 h) : aC l G mX0_reasonFor (wsX mX0_reasonFor) d mc ms [.ref x0, .int x1, .int x2, .ref x3] h P := by
  refine aC_ofH (M := mX0_reasonFor) (by decide) (Nat.le_of_ble_eq_true rfl) hl ?_
  refine aw_eqv (lv2 := [(0, .ref x0), (1, .int x1), (2, .int x2), (3, .ref x3)]) rfl rfl rfl rfl ?_
  unfold V_X0_reasonFor_0 at hv
  refine aw_aload_n 3 (x := x3) dX0_reasonFor_0 rfl rfl ?_
  refine aw_iconst (v := 0) dX0_reasonFor_1 (by decide) ?_
  refine aw_aload_n 0 (x := x0) dX0_reasonFor_2 rfl rfl ?_
  refine aw_iload_n 1 dX0_reasonFor_3 rfl rfl ?_
  refine aw_iload_n 2 dX0_reasonFor_4 rfl rfl ?_
  obtain ⟨⟨fs, he⟩, hv⟩ := hv
  obtain ⟨d2, mc2, ms2, Q, hM, hd9, hc9, hs9, hv, hx⟩ := hv
  refine aw_callV (rest := [.int 0, .ref x3]) hM he rfl rfl nX1_reasonFor q1599 q1600 q1601 q119 q1602 dX0_reasonFor_5 rfl hd9 (by decide) (Nat.le_of_ble_eq_true rfl) hc9 hs9 ?_ ?_
  rotate_left
  · exact fun E h2 q9 => by
      rcases hx E h2 q9 with ⟨e, hk⟩ | ⟨e, hk⟩
      · subst e; exact aX_catch [] ⟨0, 10, 13, 19⟩ [⟨0, 10, 17, 13⟩] rfl (fun z hz => by cases hz) (by decide) (by decide) q1357 q1377 (fun q => aw_sub [] rfl ((hk q) hc9 hs9))
      · subst e; exact aX_catch [⟨0, 10, 13, 19⟩] ⟨0, 10, 17, 13⟩ [] rfl (fun z hz => by (rcases List.mem_cons.mp hz with rfl | hz; exact Or.inr ⟨by decide, "java/lang/IndexOutOfBoundsException", q1357, by decide⟩; cases hz)) (by decide) (by decide) q1333 q1042 (fun q => aw_sub [] rfl ((hk q) hc9 hs9))
  intro v9 h2 hq
  have hv := hv v9 h2 hq
  obtain ⟨y1, rfl, hv⟩ := hv
  refine aw_eqv (pc2 := 8) (st2 := [.int y1, .int 0, .ref x3]) rfl rfl rfl rfl ?_
  revert hv hc9 hs9; generalize 0 + mc2 = c3; generalize 0 + ms2 = s4; intro hc9 hs9 hv
  refine aw_i2l dX0_reasonFor_8 ?_
  obtain ⟨n9, f9, he, hin, hv⟩ := hv
  refine aw_last he hin rfl dX0_reasonFor_9 ?_
  revert hv; generalize aUp h2 x3 (aLongs n9 (vp_updL f9 ((0 : Int32)).toNatClampNeg y1.toInt64)) = h5; intro hv
  refine aw_goto 21 dX0_reasonFor_10 (by decide) ?_
  refine aw_iconst (v := 0) dX0_reasonFor_21 (by decide) ?_
  exact aw_iret rfl dX0_reasonFor_22 hv hc9 hs9
def T_X0_step_11 (l : Launch) (G : aG) (d mc ms : Nat) (P : aR → aH → Prop) (xs0 : Nat) (h : aH) (c s : Nat) : Prop := c ≤ mc → s ≤ ms → AW l G mX0_step d mc ms P 11 [] [.ref xs0] h c s
def V_X0_step_11 (l : Launch) (G : aG) (d mc ms : Nat) (P : aR → aH → Prop) (xs0 : Nat) (h : aH) (c s : Nat) : Prop :=
  P (.inl (some (.int 1))) h
set_option maxHeartbeats 4000000 in
theorem A_X0_step_11 {l : Launch} {G : aG} {d mc ms : Nat} {P : aR → aH → Prop} {xs0 : Nat} {h : aH} {c s : Nat} (hl : l.stackTraces = false) (hv : V_X0_step_11 l G d mc ms P xs0 h c s) : T_X0_step_11 l G d mc ms P xs0 h c s := by
  intro hc hs
  unfold V_X0_step_11 at hv
  refine aw_astore_n (lv' := [(2, .ref xs0)]) dX0_step_11 rfl (Nat.le_of_ble_eq_true rfl) rfl ?_
  refine aw_iconst (v := 1) dX0_step_12 (by decide) ?_
  exact aw_iret rfl dX0_step_13 hv hc hs
def V_X0_step_0 (l : Launch) (G : aG) (d mc ms : Nat) (P : aR → aH → Prop) (x0 : Nat) (x1 : Nat) (h : aH) : Prop :=
  vIs h x0 1 (
  vC l G mX1_step (wsN mX1_step) d mc ms [.ref x0] h 0 0 (fun E h c s => (E = "java/lang/IllegalStateException" ∧ ∀ q, T_X0_step_11 l G d mc ms P q h c s)) (kI fun y1 h2 c3 s4 => 
  vStL h2 x1 (0 : Int32) y1.toInt64 fun h5 =>
  P (.inl (some (.int 0))) h5))
set_option maxHeartbeats 4000000 in
theorem A_X0_step {l : Launch} {G : aG} {d mc ms : Nat} {P : aR → aH → Prop} {x0 : Nat} {x1 : Nat} {h : aH} (hl : l.stackTraces = false) (hv : V_X0_step_0 l G d mc ms P x0 x1 h) : aC l G mX0_step (wsX mX0_step) d mc ms [.ref x0, .ref x1] h P := by
  refine aC_ofH (M := mX0_step) (by decide) (Nat.le_of_ble_eq_true rfl) hl ?_
  refine aw_eqv (lv2 := [(0, .ref x0), (1, .ref x1)]) rfl rfl rfl rfl ?_
  unfold V_X0_step_0 at hv
  refine aw_aload_n 1 (x := x1) dX0_step_0 rfl rfl ?_
  refine aw_iconst (v := 0) dX0_step_1 (by decide) ?_
  refine aw_aload_n 0 (x := x0) dX0_step_2 rfl rfl ?_
  obtain ⟨⟨fs, he⟩, hv⟩ := hv
  obtain ⟨d2, mc2, ms2, Q, hM, hd9, hc9, hs9, hv, hx⟩ := hv
  refine aw_callV (rest := [.int 0, .ref x1]) hM he rfl rfl nX1_step q1610 q1611 q1612 q119 q1613 dX0_step_3 rfl hd9 (by decide) (Nat.le_of_ble_eq_true rfl) hc9 hs9 ?_ ?_
  rotate_left
  · exact fun E h2 q9 => by
      rcases hx E h2 q9 with ⟨e, hk⟩
      · subst e; exact aX_catch [] ⟨0, 8, 11, 25⟩ [] rfl (fun z hz => by cases hz) (by decide) (by decide) q1397 q1411 (fun q => aw_sub [] rfl ((hk q) hc9 hs9))
  intro v9 h2 hq
  have hv := hv v9 h2 hq
  obtain ⟨y1, rfl, hv⟩ := hv
  refine aw_eqv (pc2 := 6) (st2 := [.int y1, .int 0, .ref x1]) rfl rfl rfl rfl ?_
  revert hv hc9 hs9; generalize 0 + mc2 = c3; generalize 0 + ms2 = s4; intro hc9 hs9 hv
  refine aw_i2l dX0_step_6 ?_
  obtain ⟨n9, f9, he, hin, hv⟩ := hv
  refine aw_last he hin rfl dX0_step_7 ?_
  revert hv; generalize aUp h2 x1 (aLongs n9 (vp_updL f9 ((0 : Int32)).toNatClampNeg y1.toInt64)) = h5; intro hv
  refine aw_goto 14 dX0_step_8 (by decide) ?_
  refine aw_iconst (v := 0) dX0_step_14 (by decide) ?_
  exact aw_iret rfl dX0_step_15 hv hc9 hs9
def T_X0_stepAll_12 (l : Launch) (G : aG) (d mc ms : Nat) (P : aR → aH → Prop) (xs0 : Nat) (h : aH) (c s : Nat) : Prop := c ≤ mc → s ≤ ms → AW l G mX0_stepAll d mc ms P 12 [] [.ref xs0] h c s
def V_X0_stepAll_12 (l : Launch) (G : aG) (d mc ms : Nat) (P : aR → aH → Prop) (xs0 : Nat) (h : aH) (c s : Nat) : Prop :=
  P (.inl (some (.int 1))) h
set_option maxHeartbeats 4000000 in
theorem A_X0_stepAll_12 {l : Launch} {G : aG} {d mc ms : Nat} {P : aR → aH → Prop} {xs0 : Nat} {h : aH} {c s : Nat} (hl : l.stackTraces = false) (hv : V_X0_stepAll_12 l G d mc ms P xs0 h c s) : T_X0_stepAll_12 l G d mc ms P xs0 h c s := by
  intro hc hs
  unfold V_X0_stepAll_12 at hv
  refine aw_astore_n (lv' := [(3, .ref xs0)]) dX0_stepAll_12 rfl (Nat.le_of_ble_eq_true rfl) rfl ?_
  refine aw_iconst (v := 1) dX0_stepAll_13 (by decide) ?_
  exact aw_iret rfl dX0_stepAll_14 hv hc hs
def V_X0_stepAll_0 (l : Launch) (G : aG) (d mc ms : Nat) (P : aR → aH → Prop) (x0 : Nat) (x1 : Int32) (x2 : Nat) (h : aH) : Prop :=
  vIs h x0 1 (
  vC l G mX1_stepAll (wsN mX1_stepAll) d mc ms [.ref x0, .int x1] h 0 0 (fun E h c s => (E = "java/lang/IllegalArgumentException" ∧ ∀ q, T_X0_stepAll_12 l G d mc ms P q h c s)) (kI fun y1 h2 c3 s4 => 
  vStL h2 x2 (0 : Int32) y1.toInt64 fun h5 =>
  P (.inl (some (.int 0))) h5))
set_option maxHeartbeats 4000000 in
theorem A_X0_stepAll {l : Launch} {G : aG} {d mc ms : Nat} {P : aR → aH → Prop} {x0 : Nat} {x1 : Int32} {x2 : Nat} {h : aH} (hl : l.stackTraces = false) (hv : V_X0_stepAll_0 l G d mc ms P x0 x1 x2 h) : aC l G mX0_stepAll (wsX mX0_stepAll) d mc ms [.ref x0, .int x1, .ref x2] h P := by
  refine aC_ofH (M := mX0_stepAll) (by decide) (Nat.le_of_ble_eq_true rfl) hl ?_
  refine aw_eqv (lv2 := [(0, .ref x0), (1, .int x1), (2, .ref x2)]) rfl rfl rfl rfl ?_
  unfold V_X0_stepAll_0 at hv
  refine aw_aload_n 2 (x := x2) dX0_stepAll_0 rfl rfl ?_
  refine aw_iconst (v := 0) dX0_stepAll_1 (by decide) ?_
  refine aw_aload_n 0 (x := x0) dX0_stepAll_2 rfl rfl ?_
  refine aw_iload_n 1 dX0_stepAll_3 rfl rfl ?_
  obtain ⟨⟨fs, he⟩, hv⟩ := hv
  obtain ⟨d2, mc2, ms2, Q, hM, hd9, hc9, hs9, hv, hx⟩ := hv
  refine aw_callV (rest := [.int 0, .ref x2]) hM he rfl rfl nX1_stepAll q1618 q1619 q1620 q119 q1621 dX0_stepAll_4 rfl hd9 (by decide) (Nat.le_of_ble_eq_true rfl) hc9 hs9 ?_ ?_
  rotate_left
  · exact fun E h2 q9 => by
      rcases hx E h2 q9 with ⟨e, hk⟩
      · subst e; exact aX_catch [] ⟨0, 9, 12, 13⟩ [] rfl (fun z hz => by cases hz) (by decide) (by decide) q1333 q1042 (fun q => aw_sub [] rfl ((hk q) hc9 hs9))
  intro v9 h2 hq
  have hv := hv v9 h2 hq
  obtain ⟨y1, rfl, hv⟩ := hv
  refine aw_eqv (pc2 := 7) (st2 := [.int y1, .int 0, .ref x2]) rfl rfl rfl rfl ?_
  revert hv hc9 hs9; generalize 0 + mc2 = c3; generalize 0 + ms2 = s4; intro hc9 hs9 hv
  refine aw_i2l dX0_stepAll_7 ?_
  obtain ⟨n9, f9, he, hin, hv⟩ := hv
  refine aw_last he hin rfl dX0_stepAll_8 ?_
  revert hv; generalize aUp h2 x2 (aLongs n9 (vp_updL f9 ((0 : Int32)).toNatClampNeg y1.toInt64)) = h5; intro hv
  refine aw_goto 15 dX0_stepAll_9 (by decide) ?_
  refine aw_iconst (v := 0) dX0_stepAll_15 (by decide) ?_
  exact aw_iret rfl dX0_stepAll_16 hv hc9 hs9
def T_X0_stepsUpTo_12 (l : Launch) (G : aG) (d mc ms : Nat) (P : aR → aH → Prop) (xs0 : Nat) (h : aH) (c s : Nat) : Prop := c ≤ mc → s ≤ ms → AW l G mX0_stepsUpTo d mc ms P 12 [] [.ref xs0] h c s
def V_X0_stepsUpTo_12 (l : Launch) (G : aG) (d mc ms : Nat) (P : aR → aH → Prop) (xs0 : Nat) (h : aH) (c s : Nat) : Prop :=
  P (.inl (some (.int 1))) h
set_option maxHeartbeats 4000000 in
theorem A_X0_stepsUpTo_12 {l : Launch} {G : aG} {d mc ms : Nat} {P : aR → aH → Prop} {xs0 : Nat} {h : aH} {c s : Nat} (hl : l.stackTraces = false) (hv : V_X0_stepsUpTo_12 l G d mc ms P xs0 h c s) : T_X0_stepsUpTo_12 l G d mc ms P xs0 h c s := by
  intro hc hs
  unfold V_X0_stepsUpTo_12 at hv
  refine aw_astore_n (lv' := [(3, .ref xs0)]) dX0_stepsUpTo_12 rfl (Nat.le_of_ble_eq_true rfl) rfl ?_
  refine aw_iconst (v := 1) dX0_stepsUpTo_13 (by decide) ?_
  exact aw_iret rfl dX0_stepsUpTo_14 hv hc hs
def V_X0_stepsUpTo_0 (l : Launch) (G : aG) (d mc ms : Nat) (P : aR → aH → Prop) (x0 : Nat) (x1 : Int32) (x2 : Nat) (h : aH) : Prop :=
  vIs h x0 1 (
  vC l G mX1_stepsUpTo (wsN mX1_stepsUpTo) d mc ms [.ref x0, .int x1] h 0 0 (fun E h c s => (E = "java/lang/IllegalArgumentException" ∧ ∀ q, T_X0_stepsUpTo_12 l G d mc ms P q h c s)) (kI fun y1 h2 c3 s4 => 
  vStL h2 x2 (0 : Int32) y1.toInt64 fun h5 =>
  P (.inl (some (.int 0))) h5))
set_option maxHeartbeats 4000000 in
theorem A_X0_stepsUpTo {l : Launch} {G : aG} {d mc ms : Nat} {P : aR → aH → Prop} {x0 : Nat} {x1 : Int32} {x2 : Nat} {h : aH} (hl : l.stackTraces = false) (hv : V_X0_stepsUpTo_0 l G d mc ms P x0 x1 x2 h) : aC l G mX0_stepsUpTo (wsX mX0_stepsUpTo) d mc ms [.ref x0, .int x1, .ref x2] h P := by
  refine aC_ofH (M := mX0_stepsUpTo) (by decide) (Nat.le_of_ble_eq_true rfl) hl ?_
  refine aw_eqv (lv2 := [(0, .ref x0), (1, .int x1), (2, .ref x2)]) rfl rfl rfl rfl ?_
  unfold V_X0_stepsUpTo_0 at hv
  refine aw_aload_n 2 (x := x2) dX0_stepsUpTo_0 rfl rfl ?_
  refine aw_iconst (v := 0) dX0_stepsUpTo_1 (by decide) ?_
  refine aw_aload_n 0 (x := x0) dX0_stepsUpTo_2 rfl rfl ?_
  refine aw_iload_n 1 dX0_stepsUpTo_3 rfl rfl ?_
  obtain ⟨⟨fs, he⟩, hv⟩ := hv
  obtain ⟨d2, mc2, ms2, Q, hM, hd9, hc9, hs9, hv, hx⟩ := hv
  refine aw_callV (rest := [.int 0, .ref x2]) hM he rfl rfl nX1_stepsUpTo q1628 q1629 q1630 q119 q1631 dX0_stepsUpTo_4 rfl hd9 (by decide) (Nat.le_of_ble_eq_true rfl) hc9 hs9 ?_ ?_
  rotate_left
  · exact fun E h2 q9 => by
      rcases hx E h2 q9 with ⟨e, hk⟩
      · subst e; exact aX_catch [] ⟨0, 9, 12, 13⟩ [] rfl (fun z hz => by cases hz) (by decide) (by decide) q1333 q1042 (fun q => aw_sub [] rfl ((hk q) hc9 hs9))
  intro v9 h2 hq
  have hv := hv v9 h2 hq
  obtain ⟨y1, rfl, hv⟩ := hv
  refine aw_eqv (pc2 := 7) (st2 := [.int y1, .int 0, .ref x2]) rfl rfl rfl rfl ?_
  revert hv hc9 hs9; generalize 0 + mc2 = c3; generalize 0 + ms2 = s4; intro hc9 hs9 hv
  refine aw_i2l dX0_stepsUpTo_7 ?_
  obtain ⟨n9, f9, he, hin, hv⟩ := hv
  refine aw_last he hin rfl dX0_stepsUpTo_8 ?_
  revert hv; generalize aUp h2 x2 (aLongs n9 (vp_updL f9 ((0 : Int32)).toNatClampNeg y1.toInt64)) = h5; intro hv
  refine aw_goto 15 dX0_stepsUpTo_9 (by decide) ?_
  refine aw_iconst (v := 0) dX0_stepsUpTo_15 (by decide) ?_
  exact aw_iret rfl dX0_stepsUpTo_16 hv hc9 hs9
def T_X0_firstThing_12 (l : Launch) (G : aG) (d mc ms : Nat) (P : aR → aH → Prop) (xs0 : Nat) (h : aH) (c s : Nat) : Prop := c ≤ mc → s ≤ ms → AW l G mX0_firstThing d mc ms P 12 [] [.ref xs0] h c s
def V_X0_firstThing_12 (l : Launch) (G : aG) (d mc ms : Nat) (P : aR → aH → Prop) (xs0 : Nat) (h : aH) (c s : Nat) : Prop :=
  P (.inl (some (.int 1))) h
set_option maxHeartbeats 4000000 in
theorem A_X0_firstThing_12 {l : Launch} {G : aG} {d mc ms : Nat} {P : aR → aH → Prop} {xs0 : Nat} {h : aH} {c s : Nat} (hl : l.stackTraces = false) (hv : V_X0_firstThing_12 l G d mc ms P xs0 h c s) : T_X0_firstThing_12 l G d mc ms P xs0 h c s := by
  intro hc hs
  unfold V_X0_firstThing_12 at hv
  refine aw_astore_n (lv' := [(3, .ref xs0)]) dX0_firstThing_12 rfl (Nat.le_of_ble_eq_true rfl) rfl ?_
  refine aw_iconst (v := 1) dX0_firstThing_13 (by decide) ?_
  exact aw_iret rfl dX0_firstThing_14 hv hc hs
def V_X0_firstThing_0 (l : Launch) (G : aG) (d mc ms : Nat) (P : aR → aH → Prop) (x0 : Nat) (x1 : Int32) (x2 : Nat) (h : aH) : Prop :=
  vIs h x0 1 (
  vC l G mX1_firstThing (wsN mX1_firstThing) d mc ms [.ref x0, .int x1] h 0 0 (fun E h c s => (E = "java/lang/IndexOutOfBoundsException" ∧ ∀ q, T_X0_firstThing_12 l G d mc ms P q h c s)) (kI fun y1 h2 c3 s4 => 
  vStL h2 x2 (0 : Int32) y1.toInt64 fun h5 =>
  P (.inl (some (.int 0))) h5))
set_option maxHeartbeats 4000000 in
theorem A_X0_firstThing {l : Launch} {G : aG} {d mc ms : Nat} {P : aR → aH → Prop} {x0 : Nat} {x1 : Int32} {x2 : Nat} {h : aH} (hl : l.stackTraces = false) (hv : V_X0_firstThing_0 l G d mc ms P x0 x1 x2 h) : aC l G mX0_firstThing (wsX mX0_firstThing) d mc ms [.ref x0, .int x1, .ref x2] h P := by
  refine aC_ofH (M := mX0_firstThing) (by decide) (Nat.le_of_ble_eq_true rfl) hl ?_
  refine aw_eqv (lv2 := [(0, .ref x0), (1, .int x1), (2, .ref x2)]) rfl rfl rfl rfl ?_
  unfold V_X0_firstThing_0 at hv
  refine aw_aload_n 2 (x := x2) dX0_firstThing_0 rfl rfl ?_
  refine aw_iconst (v := 0) dX0_firstThing_1 (by decide) ?_
  refine aw_aload_n 0 (x := x0) dX0_firstThing_2 rfl rfl ?_
  refine aw_iload_n 1 dX0_firstThing_3 rfl rfl ?_
  obtain ⟨⟨fs, he⟩, hv⟩ := hv
  obtain ⟨d2, mc2, ms2, Q, hM, hd9, hc9, hs9, hv, hx⟩ := hv
  refine aw_callV (rest := [.int 0, .ref x2]) hM he rfl rfl nX1_firstThing q1635 q1636 q1637 q119 q1638 dX0_firstThing_4 rfl hd9 (by decide) (Nat.le_of_ble_eq_true rfl) hc9 hs9 ?_ ?_
  rotate_left
  · exact fun E h2 q9 => by
      rcases hx E h2 q9 with ⟨e, hk⟩
      · subst e; exact aX_catch [] ⟨0, 9, 12, 19⟩ [] rfl (fun z hz => by cases hz) (by decide) (by decide) q1357 q1377 (fun q => aw_sub [] rfl ((hk q) hc9 hs9))
  intro v9 h2 hq
  have hv := hv v9 h2 hq
  obtain ⟨y1, rfl, hv⟩ := hv
  refine aw_eqv (pc2 := 7) (st2 := [.int y1, .int 0, .ref x2]) rfl rfl rfl rfl ?_
  revert hv hc9 hs9; generalize 0 + mc2 = c3; generalize 0 + ms2 = s4; intro hc9 hs9 hv
  refine aw_i2l dX0_firstThing_7 ?_
  obtain ⟨n9, f9, he, hin, hv⟩ := hv
  refine aw_last he hin rfl dX0_firstThing_8 ?_
  revert hv; generalize aUp h2 x2 (aLongs n9 (vp_updL f9 ((0 : Int32)).toNatClampNeg y1.toInt64)) = h5; intro hv
  refine aw_goto 15 dX0_firstThing_9 (by decide) ?_
  refine aw_iconst (v := 0) dX0_firstThing_15 (by decide) ?_
  exact aw_iret rfl dX0_firstThing_16 hv hc9 hs9
def T_X0_isNeeded_19 (l : Launch) (G : aG) (d mc ms : Nat) (P : aR → aH → Prop) (xs0 : Nat) (h : aH) (c s : Nat) : Prop := c ≤ mc → s ≤ ms → AW l G mX0_isNeeded d mc ms P 19 [] [.ref xs0] h c s
def T_X0_isNeeded_22 (l : Launch) (G : aG) (d mc ms : Nat) (P : aR → aH → Prop) (xs0 : Nat) (h : aH) (c s : Nat) : Prop := c ≤ mc → s ≤ ms → AW l G mX0_isNeeded d mc ms P 22 [] [.ref xs0] h c s
def V_X0_isNeeded_19 (l : Launch) (G : aG) (d mc ms : Nat) (P : aR → aH → Prop) (xs0 : Nat) (h : aH) (c s : Nat) : Prop :=
  P (.inl (some (.int 1))) h
set_option maxHeartbeats 4000000 in
theorem A_X0_isNeeded_19 {l : Launch} {G : aG} {d mc ms : Nat} {P : aR → aH → Prop} {xs0 : Nat} {h : aH} {c s : Nat} (hl : l.stackTraces = false) (hv : V_X0_isNeeded_19 l G d mc ms P xs0 h c s) : T_X0_isNeeded_19 l G d mc ms P xs0 h c s := by
  intro hc hs
  unfold V_X0_isNeeded_19 at hv
  refine aw_astore_n (lv' := [(3, .ref xs0)]) dX0_isNeeded_19 rfl (Nat.le_of_ble_eq_true rfl) rfl ?_
  refine aw_iconst (v := 1) dX0_isNeeded_20 (by decide) ?_
  exact aw_iret rfl dX0_isNeeded_21 hv hc hs
def V_X0_isNeeded_22 (l : Launch) (G : aG) (d mc ms : Nat) (P : aR → aH → Prop) (xs0 : Nat) (h : aH) (c s : Nat) : Prop :=
  P (.inl (some (.int 2))) h
set_option maxHeartbeats 4000000 in
theorem A_X0_isNeeded_22 {l : Launch} {G : aG} {d mc ms : Nat} {P : aR → aH → Prop} {xs0 : Nat} {h : aH} {c s : Nat} (hl : l.stackTraces = false) (hv : V_X0_isNeeded_22 l G d mc ms P xs0 h c s) : T_X0_isNeeded_22 l G d mc ms P xs0 h c s := by
  intro hc hs
  unfold V_X0_isNeeded_22 at hv
  refine aw_astore_n (lv' := [(3, .ref xs0)]) dX0_isNeeded_22 rfl (Nat.le_of_ble_eq_true rfl) rfl ?_
  refine aw_iconst (v := 2) dX0_isNeeded_23 (by decide) ?_
  exact aw_iret rfl dX0_isNeeded_24 hv hc hs
def V_X0_isNeeded_0 (l : Launch) (G : aG) (d mc ms : Nat) (P : aR → aH → Prop) (x0 : Nat) (x1 : Int32) (x2 : Nat) (h : aH) : Prop :=
  vIs h x0 1 (
  vC l G mX1_isNeeded (wsX mX1_isNeeded) d mc ms [.ref x0, .int x1] h 0 0 (fun E h c s => (E = "java/lang/IndexOutOfBoundsException" ∧ ∀ q, T_X0_isNeeded_19 l G d mc ms P q h c s) ∨ (E = "java/lang/IllegalStateException" ∧ ∀ q, T_X0_isNeeded_22 l G d mc ms P q h c s)) (kI fun y1 h2 c3 s4 => 
  vStL h2 x2 (0 : Int32) (if y1 = 0 then (0 : Int64) else 1) fun h6 =>
  P (.inl (some (.int 0))) h6))
set_option maxHeartbeats 4000000 in
theorem A_X0_isNeeded {l : Launch} {G : aG} {d mc ms : Nat} {P : aR → aH → Prop} {x0 : Nat} {x1 : Int32} {x2 : Nat} {h : aH} (hl : l.stackTraces = false) (hv : V_X0_isNeeded_0 l G d mc ms P x0 x1 x2 h) : aC l G mX0_isNeeded (wsX mX0_isNeeded) d mc ms [.ref x0, .int x1, .ref x2] h P := by
  refine aC_ofH (M := mX0_isNeeded) (by decide) (Nat.le_of_ble_eq_true rfl) hl ?_
  refine aw_eqv (lv2 := [(0, .ref x0), (1, .int x1), (2, .ref x2)]) rfl rfl rfl rfl ?_
  unfold V_X0_isNeeded_0 at hv
  refine aw_aload_n 2 (x := x2) dX0_isNeeded_0 rfl rfl ?_
  refine aw_iconst (v := 0) dX0_isNeeded_1 (by decide) ?_
  refine aw_aload_n 0 (x := x0) dX0_isNeeded_2 rfl rfl ?_
  refine aw_iload_n 1 dX0_isNeeded_3 rfl rfl ?_
  obtain ⟨⟨fs, he⟩, hv⟩ := hv
  obtain ⟨d2, mc2, ms2, Q, hM, hd9, hc9, hs9, hv, hx⟩ := hv
  refine aw_callVW (rest := [.int 0, .ref x2]) hM he rfl rfl nX1_isNeeded q1642 q1643 q1644 q119 q1645 dX0_isNeeded_4 rfl hd9 (by decide) (Nat.le_of_ble_eq_true rfl) hc9 hs9 ?_ ?_
  rotate_left
  · exact fun E h2 q9 => by
      rcases hx E h2 q9 with ⟨e, hk⟩ | ⟨e, hk⟩
      · subst e; exact aX_catch [] ⟨0, 16, 19, 19⟩ [⟨0, 16, 22, 25⟩] rfl (fun z hz => by cases hz) (by decide) (by decide) q1357 q1377 (fun q => aw_sub [] rfl ((hk q) hc9 hs9))
      · subst e; exact aX_catch [⟨0, 16, 19, 19⟩] ⟨0, 16, 22, 25⟩ [] rfl (fun z hz => by (rcases List.mem_cons.mp hz with rfl | hz; exact Or.inr ⟨by decide, "java/lang/IndexOutOfBoundsException", q1357, by decide⟩; cases hz)) (by decide) (by decide) q1397 q1411 (fun q => aw_sub [] rfl ((hk q) hc9 hs9))
  intro v9 h2 hq
  have hv := hv v9 h2 hq
  obtain ⟨y1, rfl, hv⟩ := hv
  refine aw_eqv (pc2 := 7) (st2 := [.int y1, .int 0, .ref x2]) rfl rfl rfl rfl ?_
  revert hv hc9 hs9; generalize 0 + mc2 = c3; generalize 0 + ms2 = s4; intro hc9 hs9 hv
  have J9 : AW l G mX0_isNeeded d mc ms P 15 [(0, .ref x0), (1, .int x1), (2, .ref x2)] [.long (if y1 = 0 then (0 : Int64) else 1), .int 0, .ref x2] h2 c3 s4 := by
    obtain ⟨n9, f9, he, hin, hv⟩ := hv
    refine aw_last he hin rfl dX0_isNeeded_15 ?_
    revert hv; generalize aUp h2 x2 (aLongs n9 (vp_updL f9 ((0 : Int32)).toNatClampNeg (if y1 = 0 then (0 : Int64) else 1))) = h6; intro hv
    refine aw_goto 25 dX0_isNeeded_16 (by decide) ?_
    refine aw_iconst (v := 0) dX0_isNeeded_25 (by decide) ?_
    exact aw_iret rfl dX0_isNeeded_26 hv hc9 hs9
  refine aw_if_eq 14 dX0_isNeeded_7 (by decide) (fun c5 => ?_) (fun c5 => ?_)
  · have J9 := aw_ifTL c5 J9
    refine aw_lconst (v := 0) dX0_isNeeded_14 (by decide) ?_
    exact J9
  · have J9 := aw_ifFL c5 J9
    refine aw_lconst (v := 1) dX0_isNeeded_10 (by decide) ?_
    refine aw_goto 15 dX0_isNeeded_11 (by decide) ?_
    exact J9
def T_X0_appendText_12 (l : Launch) (G : aG) (d mc ms : Nat) (P : aR → aH → Prop) (xs0 : Nat) (h : aH) (c s : Nat) : Prop := c ≤ mc → s ≤ ms → AW l G mX0_appendText d mc ms P 12 [] [.ref xs0] h c s
def T_X0_appendText_16 (l : Launch) (G : aG) (d mc ms : Nat) (P : aR → aH → Prop) (xs0 : Nat) (h : aH) (c s : Nat) : Prop := c ≤ mc → s ≤ ms → AW l G mX0_appendText d mc ms P 16 [] [.ref xs0] h c s
def V_X0_appendText_12 (l : Launch) (G : aG) (d mc ms : Nat) (P : aR → aH → Prop) (xs0 : Nat) (h : aH) (c s : Nat) : Prop :=
  P (.inl (some (.int 1))) h
set_option maxHeartbeats 4000000 in
theorem A_X0_appendText_12 {l : Launch} {G : aG} {d mc ms : Nat} {P : aR → aH → Prop} {xs0 : Nat} {h : aH} {c s : Nat} (hl : l.stackTraces = false) (hv : V_X0_appendText_12 l G d mc ms P xs0 h c s) : T_X0_appendText_12 l G d mc ms P xs0 h c s := by
  intro hc hs
  unfold V_X0_appendText_12 at hv
  refine aw_astore (lv' := [(4, .ref xs0)]) dX0_appendText_12 (Nat.le_of_ble_eq_true rfl) rfl ?_
  refine aw_iconst (v := 1) dX0_appendText_14 (by decide) ?_
  exact aw_iret rfl dX0_appendText_15 hv hc hs
def V_X0_appendText_16 (l : Launch) (G : aG) (d mc ms : Nat) (P : aR → aH → Prop) (xs0 : Nat) (h : aH) (c s : Nat) : Prop :=
  P (.inl (some (.int 2))) h
set_option maxHeartbeats 4000000 in
theorem A_X0_appendText_16 {l : Launch} {G : aG} {d mc ms : Nat} {P : aR → aH → Prop} {xs0 : Nat} {h : aH} {c s : Nat} (hl : l.stackTraces = false) (hv : V_X0_appendText_16 l G d mc ms P xs0 h c s) : T_X0_appendText_16 l G d mc ms P xs0 h c s := by
  intro hc hs
  unfold V_X0_appendText_16 at hv
  refine aw_astore (lv' := [(4, .ref xs0)]) dX0_appendText_16 (Nat.le_of_ble_eq_true rfl) rfl ?_
  refine aw_iconst (v := 2) dX0_appendText_18 (by decide) ?_
  exact aw_iret rfl dX0_appendText_19 hv hc hs
def V_X0_appendText_0 (l : Launch) (G : aG) (d mc ms : Nat) (P : aR → aH → Prop) (x0 : Nat) (x1 : Int64) (x3 : Nat) (h : aH) : Prop :=
  vIs h x0 1 (
  vC l G mX1_appendText (wsN mX1_appendText) d mc ms [.ref x0, .long x1] h 0 0 (fun E h c s => (E = "java/lang/IllegalArgumentException" ∧ ∀ q, T_X0_appendText_12 l G d mc ms P q h c s) ∨ (E = "java/lang/IllegalStateException" ∧ ∀ q, T_X0_appendText_16 l G d mc ms P q h c s)) (kI fun y1 h2 c3 s4 => 
  vStL h2 x3 (0 : Int32) y1.toInt64 fun h5 =>
  P (.inl (some (.int 0))) h5))
set_option maxHeartbeats 4000000 in
theorem A_X0_appendText {l : Launch} {G : aG} {d mc ms : Nat} {P : aR → aH → Prop} {x0 : Nat} {x1 : Int64} {x3 : Nat} {h : aH} (hl : l.stackTraces = false) (hv : V_X0_appendText_0 l G d mc ms P x0 x1 x3 h) : aC l G mX0_appendText (wsX mX0_appendText) d mc ms [.ref x0, .long x1, .ref x3] h P := by
  refine aC_ofH (M := mX0_appendText) (by decide) (Nat.le_of_ble_eq_true rfl) hl ?_
  refine aw_eqv (lv2 := [(0, .ref x0), (1, .long x1), (3, .ref x3)]) rfl rfl rfl rfl ?_
  unfold V_X0_appendText_0 at hv
  refine aw_aload_n 2 (x := x3) dX0_appendText_0 rfl rfl ?_
  refine aw_iconst (v := 0) dX0_appendText_1 (by decide) ?_
  refine aw_aload_n 0 (x := x0) dX0_appendText_2 rfl rfl ?_
  refine aw_lload_n 1 dX0_appendText_3 rfl rfl ?_
  obtain ⟨⟨fs, he⟩, hv⟩ := hv
  obtain ⟨d2, mc2, ms2, Q, hM, hd9, hc9, hs9, hv, hx⟩ := hv
  refine aw_callV (rest := [.int 0, .ref x3]) hM he rfl rfl nX1_appendText q1650 q1651 q1652 q119 q1653 dX0_appendText_4 rfl hd9 (by decide) (Nat.le_of_ble_eq_true rfl) hc9 hs9 ?_ ?_
  rotate_left
  · exact fun E h2 q9 => by
      rcases hx E h2 q9 with ⟨e, hk⟩ | ⟨e, hk⟩
      · subst e; exact aX_catch [] ⟨0, 9, 12, 13⟩ [⟨0, 9, 16, 25⟩] rfl (fun z hz => by cases hz) (by decide) (by decide) q1333 q1042 (fun q => aw_sub [] rfl ((hk q) hc9 hs9))
      · subst e; exact aX_catch [⟨0, 9, 12, 13⟩] ⟨0, 9, 16, 25⟩ [] rfl (fun z hz => by (rcases List.mem_cons.mp hz with rfl | hz; exact Or.inr ⟨by decide, "java/lang/IllegalArgumentException", q1333, by decide⟩; cases hz)) (by decide) (by decide) q1397 q1411 (fun q => aw_sub [] rfl ((hk q) hc9 hs9))
  intro v9 h2 hq
  have hv := hv v9 h2 hq
  obtain ⟨y1, rfl, hv⟩ := hv
  refine aw_eqv (pc2 := 7) (st2 := [.int y1, .int 0, .ref x3]) rfl rfl rfl rfl ?_
  revert hv hc9 hs9; generalize 0 + mc2 = c3; generalize 0 + ms2 = s4; intro hc9 hs9 hv
  refine aw_i2l dX0_appendText_7 ?_
  obtain ⟨n9, f9, he, hin, hv⟩ := hv
  refine aw_last he hin rfl dX0_appendText_8 ?_
  revert hv; generalize aUp h2 x3 (aLongs n9 (vp_updL f9 ((0 : Int32)).toNatClampNeg y1.toInt64)) = h5; intro hv
  refine aw_goto 20 dX0_appendText_9 (by decide) ?_
  refine aw_iconst (v := 0) dX0_appendText_20 (by decide) ?_
  exact aw_iret rfl dX0_appendText_21 hv hc9 hs9
def T_X0_runText_11 (l : Launch) (G : aG) (d mc ms : Nat) (P : aR → aH → Prop) (xs0 : Nat) (h : aH) (c s : Nat) : Prop := c ≤ mc → s ≤ ms → AW l G mX0_runText d mc ms P 11 [] [.ref xs0] h c s
def V_X0_runText_11 (l : Launch) (G : aG) (d mc ms : Nat) (P : aR → aH → Prop) (xs0 : Nat) (h : aH) (c s : Nat) : Prop :=
  P (.inl (some (.int 1))) h
set_option maxHeartbeats 4000000 in
theorem A_X0_runText_11 {l : Launch} {G : aG} {d mc ms : Nat} {P : aR → aH → Prop} {xs0 : Nat} {h : aH} {c s : Nat} (hl : l.stackTraces = false) (hv : V_X0_runText_11 l G d mc ms P xs0 h c s) : T_X0_runText_11 l G d mc ms P xs0 h c s := by
  intro hc hs
  unfold V_X0_runText_11 at hv
  refine aw_astore_n (lv' := [(2, .ref xs0)]) dX0_runText_11 rfl (Nat.le_of_ble_eq_true rfl) rfl ?_
  refine aw_iconst (v := 1) dX0_runText_12 (by decide) ?_
  exact aw_iret rfl dX0_runText_13 hv hc hs
def V_X0_runText_0 (l : Launch) (G : aG) (d mc ms : Nat) (P : aR → aH → Prop) (x0 : Nat) (x1 : Nat) (h : aH) : Prop :=
  vIs h x0 1 (
  vC l G mX1_runText (wsN mX1_runText) d mc ms [.ref x0] h 0 0 (fun E h c s => (E = "java/lang/IllegalStateException" ∧ ∀ q, T_X0_runText_11 l G d mc ms P q h c s)) (kI fun y1 h2 c3 s4 => 
  vStL h2 x1 (0 : Int32) y1.toInt64 fun h5 =>
  P (.inl (some (.int 0))) h5))
set_option maxHeartbeats 4000000 in
theorem A_X0_runText {l : Launch} {G : aG} {d mc ms : Nat} {P : aR → aH → Prop} {x0 : Nat} {x1 : Nat} {h : aH} (hl : l.stackTraces = false) (hv : V_X0_runText_0 l G d mc ms P x0 x1 h) : aC l G mX0_runText (wsX mX0_runText) d mc ms [.ref x0, .ref x1] h P := by
  refine aC_ofH (M := mX0_runText) (by decide) (Nat.le_of_ble_eq_true rfl) hl ?_
  refine aw_eqv (lv2 := [(0, .ref x0), (1, .ref x1)]) rfl rfl rfl rfl ?_
  unfold V_X0_runText_0 at hv
  refine aw_aload_n 1 (x := x1) dX0_runText_0 rfl rfl ?_
  refine aw_iconst (v := 0) dX0_runText_1 (by decide) ?_
  refine aw_aload_n 0 (x := x0) dX0_runText_2 rfl rfl ?_
  obtain ⟨⟨fs, he⟩, hv⟩ := hv
  obtain ⟨d2, mc2, ms2, Q, hM, hd9, hc9, hs9, hv, hx⟩ := hv
  refine aw_callV (rest := [.int 0, .ref x1]) hM he rfl rfl nX1_runText q1675 q1676 q1677 q119 q1678 dX0_runText_3 rfl hd9 (by decide) (Nat.le_of_ble_eq_true rfl) hc9 hs9 ?_ ?_
  rotate_left
  · exact fun E h2 q9 => by
      rcases hx E h2 q9 with ⟨e, hk⟩
      · subst e; exact aX_catch [] ⟨0, 8, 11, 25⟩ [] rfl (fun z hz => by cases hz) (by decide) (by decide) q1397 q1411 (fun q => aw_sub [] rfl ((hk q) hc9 hs9))
  intro v9 h2 hq
  have hv := hv v9 h2 hq
  obtain ⟨y1, rfl, hv⟩ := hv
  refine aw_eqv (pc2 := 6) (st2 := [.int y1, .int 0, .ref x1]) rfl rfl rfl rfl ?_
  revert hv hc9 hs9; generalize 0 + mc2 = c3; generalize 0 + ms2 = s4; intro hc9 hs9 hv
  refine aw_i2l dX0_runText_6 ?_
  obtain ⟨n9, f9, he, hin, hv⟩ := hv
  refine aw_last he hin rfl dX0_runText_7 ?_
  revert hv; generalize aUp h2 x1 (aLongs n9 (vp_updL f9 ((0 : Int32)).toNatClampNeg y1.toInt64)) = h5; intro hv
  refine aw_goto 14 dX0_runText_8 (by decide) ?_
  refine aw_iconst (v := 0) dX0_runText_14 (by decide) ?_
  exact aw_iret rfl dX0_runText_15 hv hc9 hs9
def T_X0_undo_11 (l : Launch) (G : aG) (d mc ms : Nat) (P : aR → aH → Prop) (xs0 : Nat) (h : aH) (c s : Nat) : Prop := c ≤ mc → s ≤ ms → AW l G mX0_undo d mc ms P 11 [] [.ref xs0] h c s
def V_X0_undo_11 (l : Launch) (G : aG) (d mc ms : Nat) (P : aR → aH → Prop) (xs0 : Nat) (h : aH) (c s : Nat) : Prop :=
  P (.inl (some (.int 1))) h
set_option maxHeartbeats 4000000 in
theorem A_X0_undo_11 {l : Launch} {G : aG} {d mc ms : Nat} {P : aR → aH → Prop} {xs0 : Nat} {h : aH} {c s : Nat} (hl : l.stackTraces = false) (hv : V_X0_undo_11 l G d mc ms P xs0 h c s) : T_X0_undo_11 l G d mc ms P xs0 h c s := by
  intro hc hs
  unfold V_X0_undo_11 at hv
  refine aw_astore_n (lv' := [(2, .ref xs0)]) dX0_undo_11 rfl (Nat.le_of_ble_eq_true rfl) rfl ?_
  refine aw_iconst (v := 1) dX0_undo_12 (by decide) ?_
  exact aw_iret rfl dX0_undo_13 hv hc hs
def V_X0_undo_0 (l : Launch) (G : aG) (d mc ms : Nat) (P : aR → aH → Prop) (x0 : Nat) (x1 : Nat) (h : aH) : Prop :=
  vIs h x0 1 (
  vC l G mX1_undo (wsN mX1_undo) d mc ms [.ref x0] h 0 0 (fun E h c s => (E = "java/lang/IllegalStateException" ∧ ∀ q, T_X0_undo_11 l G d mc ms P q h c s)) (kI fun y1 h2 c3 s4 => 
  vStL h2 x1 (0 : Int32) y1.toInt64 fun h5 =>
  P (.inl (some (.int 0))) h5))
set_option maxHeartbeats 4000000 in
theorem A_X0_undo {l : Launch} {G : aG} {d mc ms : Nat} {P : aR → aH → Prop} {x0 : Nat} {x1 : Nat} {h : aH} (hl : l.stackTraces = false) (hv : V_X0_undo_0 l G d mc ms P x0 x1 h) : aC l G mX0_undo (wsX mX0_undo) d mc ms [.ref x0, .ref x1] h P := by
  refine aC_ofH (M := mX0_undo) (by decide) (Nat.le_of_ble_eq_true rfl) hl ?_
  refine aw_eqv (lv2 := [(0, .ref x0), (1, .ref x1)]) rfl rfl rfl rfl ?_
  unfold V_X0_undo_0 at hv
  refine aw_aload_n 1 (x := x1) dX0_undo_0 rfl rfl ?_
  refine aw_iconst (v := 0) dX0_undo_1 (by decide) ?_
  refine aw_aload_n 0 (x := x0) dX0_undo_2 rfl rfl ?_
  obtain ⟨⟨fs, he⟩, hv⟩ := hv
  obtain ⟨d2, mc2, ms2, Q, hM, hd9, hc9, hs9, hv, hx⟩ := hv
  refine aw_callV (rest := [.int 0, .ref x1]) hM he rfl rfl nX1_undo q1693 q1694 q1695 q119 q1696 dX0_undo_3 rfl hd9 (by decide) (Nat.le_of_ble_eq_true rfl) hc9 hs9 ?_ ?_
  rotate_left
  · exact fun E h2 q9 => by
      rcases hx E h2 q9 with ⟨e, hk⟩
      · subst e; exact aX_catch [] ⟨0, 8, 11, 25⟩ [] rfl (fun z hz => by cases hz) (by decide) (by decide) q1397 q1411 (fun q => aw_sub [] rfl ((hk q) hc9 hs9))
  intro v9 h2 hq
  have hv := hv v9 h2 hq
  obtain ⟨y1, rfl, hv⟩ := hv
  refine aw_eqv (pc2 := 6) (st2 := [.int y1, .int 0, .ref x1]) rfl rfl rfl rfl ?_
  revert hv hc9 hs9; generalize 0 + mc2 = c3; generalize 0 + ms2 = s4; intro hc9 hs9 hv
  refine aw_i2l dX0_undo_6 ?_
  obtain ⟨n9, f9, he, hin, hv⟩ := hv
  refine aw_last he hin rfl dX0_undo_7 ?_
  revert hv; generalize aUp h2 x1 (aLongs n9 (vp_updL f9 ((0 : Int32)).toNatClampNeg y1.toInt64)) = h5; intro hv
  refine aw_goto 14 dX0_undo_8 (by decide) ?_
  refine aw_iconst (v := 0) dX0_undo_14 (by decide) ?_
  exact aw_iret rfl dX0_undo_15 hv hc9 hs9
def T_X0_saveState_12 (l : Launch) (G : aG) (d mc ms : Nat) (P : aR → aH → Prop) (xs0 : Nat) (h : aH) (c s : Nat) : Prop := c ≤ mc → s ≤ ms → AW l G mX0_saveState d mc ms P 12 [] [.ref xs0] h c s
def V_X0_saveState_12 (l : Launch) (G : aG) (d mc ms : Nat) (P : aR → aH → Prop) (xs0 : Nat) (h : aH) (c s : Nat) : Prop :=
  P (.inl (some (.int 1))) h
set_option maxHeartbeats 4000000 in
theorem A_X0_saveState_12 {l : Launch} {G : aG} {d mc ms : Nat} {P : aR → aH → Prop} {xs0 : Nat} {h : aH} {c s : Nat} (hl : l.stackTraces = false) (hv : V_X0_saveState_12 l G d mc ms P xs0 h c s) : T_X0_saveState_12 l G d mc ms P xs0 h c s := by
  intro hc hs
  unfold V_X0_saveState_12 at hv
  refine aw_astore_n (lv' := [(3, .ref xs0)]) dX0_saveState_12 rfl (Nat.le_of_ble_eq_true rfl) rfl ?_
  refine aw_iconst (v := 1) dX0_saveState_13 (by decide) ?_
  exact aw_iret rfl dX0_saveState_14 hv hc hs
def V_X0_saveState_0 (l : Launch) (G : aG) (d mc ms : Nat) (P : aR → aH → Prop) (x0 : Nat) (x1 : Int32) (x2 : Nat) (h : aH) : Prop :=
  vIs h x0 1 (
  vC l G mX1_saveState (wsN mX1_saveState) d mc ms [.ref x0, .int x1] h 0 0 (fun E h c s => (E = "java/lang/IndexOutOfBoundsException" ∧ ∀ q, T_X0_saveState_12 l G d mc ms P q h c s)) (kI fun y1 h2 c3 s4 => 
  vStL h2 x2 (0 : Int32) y1.toInt64 fun h5 =>
  P (.inl (some (.int 0))) h5))
set_option maxHeartbeats 4000000 in
theorem A_X0_saveState {l : Launch} {G : aG} {d mc ms : Nat} {P : aR → aH → Prop} {x0 : Nat} {x1 : Int32} {x2 : Nat} {h : aH} (hl : l.stackTraces = false) (hv : V_X0_saveState_0 l G d mc ms P x0 x1 x2 h) : aC l G mX0_saveState (wsX mX0_saveState) d mc ms [.ref x0, .int x1, .ref x2] h P := by
  refine aC_ofH (M := mX0_saveState) (by decide) (Nat.le_of_ble_eq_true rfl) hl ?_
  refine aw_eqv (lv2 := [(0, .ref x0), (1, .int x1), (2, .ref x2)]) rfl rfl rfl rfl ?_
  unfold V_X0_saveState_0 at hv
  refine aw_aload_n 2 (x := x2) dX0_saveState_0 rfl rfl ?_
  refine aw_iconst (v := 0) dX0_saveState_1 (by decide) ?_
  refine aw_aload_n 0 (x := x0) dX0_saveState_2 rfl rfl ?_
  refine aw_iload_n 1 dX0_saveState_3 rfl rfl ?_
  obtain ⟨⟨fs, he⟩, hv⟩ := hv
  obtain ⟨d2, mc2, ms2, Q, hM, hd9, hc9, hs9, hv, hx⟩ := hv
  refine aw_callV (rest := [.int 0, .ref x2]) hM he rfl rfl nX1_saveState q1710 q1711 q1712 q119 q1713 dX0_saveState_4 rfl hd9 (by decide) (Nat.le_of_ble_eq_true rfl) hc9 hs9 ?_ ?_
  rotate_left
  · exact fun E h2 q9 => by
      rcases hx E h2 q9 with ⟨e, hk⟩
      · subst e; exact aX_catch [] ⟨0, 9, 12, 19⟩ [] rfl (fun z hz => by cases hz) (by decide) (by decide) q1357 q1377 (fun q => aw_sub [] rfl ((hk q) hc9 hs9))
  intro v9 h2 hq
  have hv := hv v9 h2 hq
  obtain ⟨y1, rfl, hv⟩ := hv
  refine aw_eqv (pc2 := 7) (st2 := [.int y1, .int 0, .ref x2]) rfl rfl rfl rfl ?_
  revert hv hc9 hs9; generalize 0 + mc2 = c3; generalize 0 + ms2 = s4; intro hc9 hs9 hv
  refine aw_i2l dX0_saveState_7 ?_
  obtain ⟨n9, f9, he, hin, hv⟩ := hv
  refine aw_last he hin rfl dX0_saveState_8 ?_
  revert hv; generalize aUp h2 x2 (aLongs n9 (vp_updL f9 ((0 : Int32)).toNatClampNeg y1.toInt64)) = h5; intro hv
  refine aw_goto 15 dX0_saveState_9 (by decide) ?_
  refine aw_iconst (v := 0) dX0_saveState_15 (by decide) ?_
  exact aw_iret rfl dX0_saveState_16 hv hc9 hs9
def T_X0_loadState_12 (l : Launch) (G : aG) (d mc ms : Nat) (P : aR → aH → Prop) (xs0 : Nat) (h : aH) (c s : Nat) : Prop := c ≤ mc → s ≤ ms → AW l G mX0_loadState d mc ms P 12 [] [.ref xs0] h c s
def T_X0_loadState_15 (l : Launch) (G : aG) (d mc ms : Nat) (P : aR → aH → Prop) (xs0 : Nat) (h : aH) (c s : Nat) : Prop := c ≤ mc → s ≤ ms → AW l G mX0_loadState d mc ms P 15 [] [.ref xs0] h c s
def V_X0_loadState_12 (l : Launch) (G : aG) (d mc ms : Nat) (P : aR → aH → Prop) (xs0 : Nat) (h : aH) (c s : Nat) : Prop :=
  P (.inl (some (.int 1))) h
set_option maxHeartbeats 4000000 in
theorem A_X0_loadState_12 {l : Launch} {G : aG} {d mc ms : Nat} {P : aR → aH → Prop} {xs0 : Nat} {h : aH} {c s : Nat} (hl : l.stackTraces = false) (hv : V_X0_loadState_12 l G d mc ms P xs0 h c s) : T_X0_loadState_12 l G d mc ms P xs0 h c s := by
  intro hc hs
  unfold V_X0_loadState_12 at hv
  refine aw_astore_n (lv' := [(3, .ref xs0)]) dX0_loadState_12 rfl (Nat.le_of_ble_eq_true rfl) rfl ?_
  refine aw_iconst (v := 1) dX0_loadState_13 (by decide) ?_
  exact aw_iret rfl dX0_loadState_14 hv hc hs
def V_X0_loadState_15 (l : Launch) (G : aG) (d mc ms : Nat) (P : aR → aH → Prop) (xs0 : Nat) (h : aH) (c s : Nat) : Prop :=
  P (.inl (some (.int 2))) h
set_option maxHeartbeats 4000000 in
theorem A_X0_loadState_15 {l : Launch} {G : aG} {d mc ms : Nat} {P : aR → aH → Prop} {xs0 : Nat} {h : aH} {c s : Nat} (hl : l.stackTraces = false) (hv : V_X0_loadState_15 l G d mc ms P xs0 h c s) : T_X0_loadState_15 l G d mc ms P xs0 h c s := by
  intro hc hs
  unfold V_X0_loadState_15 at hv
  refine aw_astore_n (lv' := [(3, .ref xs0)]) dX0_loadState_15 rfl (Nat.le_of_ble_eq_true rfl) rfl ?_
  refine aw_iconst (v := 2) dX0_loadState_16 (by decide) ?_
  exact aw_iret rfl dX0_loadState_17 hv hc hs
def V_X0_loadState_0 (l : Launch) (G : aG) (d mc ms : Nat) (P : aR → aH → Prop) (x0 : Nat) (x1 : Int32) (x2 : Nat) (h : aH) : Prop :=
  vIs h x0 1 (
  vC l G mX1_loadState (wsN mX1_loadState) d mc ms [.ref x0, .int x1] h 0 0 (fun E h c s => (E = "java/lang/IndexOutOfBoundsException" ∧ ∀ q, T_X0_loadState_12 l G d mc ms P q h c s) ∨ (E = "java/lang/IllegalStateException" ∧ ∀ q, T_X0_loadState_15 l G d mc ms P q h c s)) (kI fun y1 h2 c3 s4 => 
  vStL h2 x2 (0 : Int32) y1.toInt64 fun h5 =>
  P (.inl (some (.int 0))) h5))
set_option maxHeartbeats 4000000 in
theorem A_X0_loadState {l : Launch} {G : aG} {d mc ms : Nat} {P : aR → aH → Prop} {x0 : Nat} {x1 : Int32} {x2 : Nat} {h : aH} (hl : l.stackTraces = false) (hv : V_X0_loadState_0 l G d mc ms P x0 x1 x2 h) : aC l G mX0_loadState (wsX mX0_loadState) d mc ms [.ref x0, .int x1, .ref x2] h P := by
  refine aC_ofH (M := mX0_loadState) (by decide) (Nat.le_of_ble_eq_true rfl) hl ?_
  refine aw_eqv (lv2 := [(0, .ref x0), (1, .int x1), (2, .ref x2)]) rfl rfl rfl rfl ?_
  unfold V_X0_loadState_0 at hv
  refine aw_aload_n 2 (x := x2) dX0_loadState_0 rfl rfl ?_
  refine aw_iconst (v := 0) dX0_loadState_1 (by decide) ?_
  refine aw_aload_n 0 (x := x0) dX0_loadState_2 rfl rfl ?_
  refine aw_iload_n 1 dX0_loadState_3 rfl rfl ?_
  obtain ⟨⟨fs, he⟩, hv⟩ := hv
  obtain ⟨d2, mc2, ms2, Q, hM, hd9, hc9, hs9, hv, hx⟩ := hv
  refine aw_callV (rest := [.int 0, .ref x2]) hM he rfl rfl nX1_loadState q1717 q1718 q1719 q119 q1720 dX0_loadState_4 rfl hd9 (by decide) (Nat.le_of_ble_eq_true rfl) hc9 hs9 ?_ ?_
  rotate_left
  · exact fun E h2 q9 => by
      rcases hx E h2 q9 with ⟨e, hk⟩ | ⟨e, hk⟩
      · subst e; exact aX_catch [] ⟨0, 9, 12, 19⟩ [⟨0, 9, 15, 25⟩] rfl (fun z hz => by cases hz) (by decide) (by decide) q1357 q1377 (fun q => aw_sub [] rfl ((hk q) hc9 hs9))
      · subst e; exact aX_catch [⟨0, 9, 12, 19⟩] ⟨0, 9, 15, 25⟩ [] rfl (fun z hz => by (rcases List.mem_cons.mp hz with rfl | hz; exact Or.inr ⟨by decide, "java/lang/IndexOutOfBoundsException", q1357, by decide⟩; cases hz)) (by decide) (by decide) q1397 q1411 (fun q => aw_sub [] rfl ((hk q) hc9 hs9))
  intro v9 h2 hq
  have hv := hv v9 h2 hq
  obtain ⟨y1, rfl, hv⟩ := hv
  refine aw_eqv (pc2 := 7) (st2 := [.int y1, .int 0, .ref x2]) rfl rfl rfl rfl ?_
  revert hv hc9 hs9; generalize 0 + mc2 = c3; generalize 0 + ms2 = s4; intro hc9 hs9 hv
  refine aw_i2l dX0_loadState_7 ?_
  obtain ⟨n9, f9, he, hin, hv⟩ := hv
  refine aw_last he hin rfl dX0_loadState_8 ?_
  revert hv; generalize aUp h2 x2 (aLongs n9 (vp_updL f9 ((0 : Int32)).toNatClampNeg y1.toInt64)) = h5; intro hv
  refine aw_goto 18 dX0_loadState_9 (by decide) ?_
  refine aw_iconst (v := 0) dX0_loadState_18 (by decide) ?_
  exact aw_iret rfl dX0_loadState_19 hv hc9 hs9
