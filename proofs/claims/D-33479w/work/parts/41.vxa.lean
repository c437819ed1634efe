/-! arrangements, puzzle, found (printed by gen2.py) -/
set_option maxRecDepth 100000
def T_X4_make_44 (l : Launch) (G : aG) (d mc ms : Nat) (P : aR → aH → Prop) (x0 : Nat) (x1 : Int32) (x2 : Int32) (x3 : Nat) (x4 : Int32) (h : aH) (c s : Nat) : Prop := c ≤ mc → s ≤ ms → AW l G mX4_make d mc ms P 44 [(0, .ref x0), (1, .int x1), (2, .int x2), (3, .ref x3), (4, .int x4)] [] h c s
def T_X4_make_106 (l : Launch) (G : aG) (d mc ms : Nat) (P : aR → aH → Prop) (x0 : Nat) (x1 : Int32) (x2 : Int32) (x3 : Nat) (x4 : Int32) (xs0 : Int32) (h : aH) (c s : Nat) : Prop := c ≤ mc → s ≤ ms → AW l G mX4_make d mc ms P 106 [(0, .ref x0), (1, .int x1), (2, .int x2), (3, .ref x3), (4, .int x4)] [.int xs0] h c s
def V_X4_make_44 (l : Launch) (G : aG) (d mc ms : Nat) (P : aR → aH → Prop) (x0 : Nat) (x1 : Int32) (x2 : Int32) (x3 : Nat) (x4 : Int32) (h : aH) (c s : Nat) : Prop :=
  vI h x0 4 2 fun y1 =>
  (y1 < x4 → 
    P (.inl none) h
    ) ∧ (¬ y1 < x4 → 
    vI h x0 4 1 fun y3 =>
    vI h x0 4 2 fun y4 =>
    vC l G mJ6_bitCount (wsN mJ6_bitCount) d mc ms [.int x2] h c s (xP P) (kI fun y5 h6 c7 s8 => 
    ∀ v10 : Int32, v10 = (if (y3 - x1) ≤ (y4 - y5) then (0 : Int32) else 1) →
    vI h6 x0 4 2 fun y11 =>
    (¬ x4 = y11 → 
      vC l G mX1_has (wsN mX1_has) d mc ms [.int x2, .int x4] h6 c7 s8 (xP P) (kI fun y13 h14 c15 s16 => 
      T_X4_make_106 l G d mc ms P x0 x1 x2 x3 x4 (if y13 = 0 then (1 : Int32) else 0) h14 c15 s16)
      ) ∧ (x4 = y11 → 
      T_X4_make_106 l G d mc ms P x0 x1 x2 x3 x4 v10 h6 c7 s8
      ))
    )
set_option maxHeartbeats 4000000 in
theorem A_X4_make_44 {l : Launch} {G : aG} {d mc ms : Nat} {P : aR → aH → Prop} {x0 : Nat} {x1 : Int32} {x2 : Int32} {x3 : Nat} {x4 : Int32} {h : aH} {c s : Nat} (hl : l.stackTraces = false) (hv : V_X4_make_44 l G d mc ms P x0 x1 x2 x3 x4 h c s) : T_X4_make_44 l G d mc ms P x0 x1 x2 x3 x4 h c s := by
  intro hc hs
  unfold V_X4_make_44 at hv
  refine aw_iload 4 dX4_make_44 rfl ?_
  refine aw_aload_n 0 (x := x0) dX4_make_46 rfl rfl ?_
  obtain ⟨fs, y1, he, hx, hv⟩ := hv
  refine aw_get (v := .int y1) he rfl in_X4 2 (by decide) q304 (Or.inl rfl) hx dX4_make_47 ?_
  refine aw_icmp_gt 151 dX4_make_50 (by decide) (fun c2 => ?_) (fun c2 => ?_)
  · have hv := hv.1 c2
    exact aw_vret rfl dX4_make_151 hv hc hs
  · have hv := hv.2 c2
    refine aw_aload_n 0 (x := x0) dX4_make_53 rfl rfl ?_
    obtain ⟨fs, y3, he, hx, hv⟩ := hv
    refine aw_get (v := .int y3) he rfl in_X4 1 (by decide) q302 (Or.inl rfl) hx dX4_make_54 ?_
    refine aw_iload_n 1 dX4_make_57 rfl rfl ?_
    refine aw_isub dX4_make_58 ?_
    refine aw_aload_n 0 (x := x0) dX4_make_59 rfl rfl ?_
    obtain ⟨fs, y4, he, hx, hv⟩ := hv
    refine aw_get (v := .int y4) he rfl in_X4 2 (by decide) q304 (Or.inl rfl) hx dX4_make_60 ?_
    refine aw_iload_n 2 dX4_make_63 rfl rfl ?_
    obtain ⟨d2, mc2, ms2, Q, hM, hd9, hc9, hs9, hv, hx⟩ := hv
    refine aw_callS (rest := [.int y4, .int (y3 - x1)]) hM nJ6_bitCount q291 q292 q131 q293 dX4_make_64 rfl hd9 (by decide) (Nat.le_of_ble_eq_true rfl) hc9 hs9 ?_ ?_
    rotate_left
    · exact fun E h2 q => aX_out (hx E h2 q) rfl hc9 hs9
    intro v9 h6 hq
    have hv := hv v9 h6 hq
    obtain ⟨y5, rfl, hv⟩ := hv
    refine aw_eqv (pc2 := 67) (st2 := [.int y5, .int y4, .int (y3 - x1)]) rfl rfl rfl rfl ?_
    revert hv hc9 hs9; generalize c + mc2 = c7; generalize s + ms2 = s8; intro hc9 hs9 hv
    refine aw_isub dX4_make_67 ?_
    have J9 : AW l G mX4_make d mc ms P 76 [(0, .ref x0), (1, .int x1), (2, .int x2), (3, .ref x3), (4, .int x4)] [.int (if (y3 - x1) ≤ (y4 - y5) then (0 : Int32) else 1)] h6 c7 s8 := by
      refine aw_topi (fun v10 ev10 => ?_)
      have hv := hv v10 ev10
      refine aw_istore (lv' := [(5, .int v10), (0, .ref x0), (1, .int x1), (2, .int x2), (3, .ref x3), (4, .int x4)]) dX4_make_76 (Nat.le_of_ble_eq_true rfl) rfl ?_
      refine aw_iload 5 dX4_make_78 rfl ?_
      refine aw_aload_n 1 (x := x0) dX4_make_80 rfl rfl ?_
      obtain ⟨fs, y11, he, hx, hv⟩ := hv
      refine aw_get (v := .int y11) he rfl in_X4 2 (by decide) q304 (Or.inl rfl) hx dX4_make_81 ?_
      refine aw_icmp_ne 92 dX4_make_84 (by decide) (fun c12 => ?_) (fun c12 => ?_)
      · have hv := hv.1 c12
        refine aw_iload_n 3 dX4_make_92 rfl rfl ?_
        refine aw_iload 5 dX4_make_93 rfl ?_
        obtain ⟨d2, mc2, ms2, Q, hM, hd9, hc9, hs9, hv, hx⟩ := hv
        refine aw_callSN (rest := []) hM nX1_has q297 q298 q119 q299 dX4_make_95 rfl hd9 (by decide) (Nat.le_of_ble_eq_true rfl) hc9 hs9 ?_ ?_
        rotate_left
        · exact fun E h2 q => aX_out (hx E h2 q) rfl hc9 hs9
        intro v9 h14 hq
        have hv := hv v9 h14 hq
        obtain ⟨y13, rfl, hv⟩ := hv
        refine aw_eqv (pc2 := 98) (st2 := [.int y13]) rfl rfl rfl rfl ?_
        revert hv hc9 hs9; generalize c7 + mc2 = c15; generalize s8 + ms2 = s16; intro hc9 hs9 hv
        have J9 : AW l G mX4_make d mc ms P 106 [(5, .int v10), (0, .ref x0), (1, .int x1), (2, .int x2), (3, .ref x3), (4, .int x4)] [.int (if y13 = 0 then (1 : Int32) else 0)] h14 c15 s16 := by
          refine aw_sub [1, 2, 3, 4, 5] rfl ?_
          exact hv hc9 hs9
        refine aw_if_ne 105 dX4_make_98 (by decide) (fun c17 => ?_) (fun c17 => ?_)
        · have J9 := aw_ifF c17 J9
          refine aw_iconst (v := 0) dX4_make_105 (by decide) ?_
          exact J9
        · have J9 := aw_ifT c17 J9
          refine aw_iconst (v := 1) dX4_make_101 (by decide) ?_
          refine aw_goto 106 dX4_make_102 (by decide) ?_
          exact J9
      · have hv := hv.2 c12
        refine aw_iload 0 dX4_make_87 rfl ?_
        refine aw_goto 106 dX4_make_89 (by decide) ?_
        refine aw_sub [1, 2, 3, 4, 5] rfl ?_
        exact hv hc9 hs9
    refine aw_icmp_le 75 dX4_make_68 (by decide) (fun c9 => ?_) (fun c9 => ?_)
    · have J9 := aw_ifT c9 J9
      refine aw_iconst (v := 0) dX4_make_75 (by decide) ?_
      exact J9
    · have J9 := aw_ifF c9 J9
      refine aw_iconst (v := 1) dX4_make_71 (by decide) ?_
      refine aw_goto 76 dX4_make_72 (by decide) ?_
      exact J9
def V_X4_make_106 (l : Launch) (G : aG) (d mc ms : Nat) (P : aR → aH → Prop) (x0 : Nat) (x1 : Int32) (x2 : Int32) (x3 : Nat) (x4 : Int32) (xs0 : Int32) (h : aH) (c s : Nat) : Prop :=
  vSt .int h x3 x1 x4 fun h18 =>
  (xs0 = 0 → 
    T_X4_make_44 l G d mc ms P x0 x1 x2 x3 (x4 + 1) h18 c s
    ) ∧ (¬ xs0 = 0 → 
    vI h18 x0 4 2 fun y20 =>
    vIs h18 x0 4 (
    vC l G mX4_make (wsN mX4_make) d mc ms [.ref x0, .int (x1 + (1 : Int32)), .int (if x4 = y20 then x2 else x2 ||| ((1 : Int32) <<< (x4 &&& 31))), .ref x3] h18 c s (xP P) (kV fun h23 c24 s25 => 
    T_X4_make_44 l G d mc ms P x0 x1 x2 x3 (x4 + 1) h23 c24 s25))
    )
set_option maxHeartbeats 4000000 in
theorem A_X4_make_106 {l : Launch} {G : aG} {d mc ms : Nat} {P : aR → aH → Prop} {x0 : Nat} {x1 : Int32} {x2 : Int32} {x3 : Nat} {x4 : Int32} {xs0 : Int32} {h : aH} {c s : Nat} (hl : l.stackTraces = false) (hv : V_X4_make_106 l G d mc ms P x0 x1 x2 x3 x4 xs0 h c s) : T_X4_make_106 l G d mc ms P x0 x1 x2 x3 x4 xs0 h c s := by
  intro hc hs
  unfold V_X4_make_106 at hv
  refine aw_istore (lv' := [(6, .int xs0), (0, .ref x0), (1, .int x1), (2, .int x2), (3, .ref x3), (4, .int x4)]) dX4_make_106 (Nat.le_of_ble_eq_true rfl) rfl ?_
  refine aw_aload_n 4 (x := x3) dX4_make_108 rfl rfl ?_
  refine aw_iload_n 2 dX4_make_109 rfl rfl ?_
  refine aw_iload 5 dX4_make_110 rfl ?_
  obtain ⟨n9, f9, he, hin, hv⟩ := hv
  refine aw_iast he hin rfl dX4_make_112 ?_
  revert hv; generalize aUp h x3 (aInts .int n9 (upd f9 (x1).toNatClampNeg x4)) = h18; intro hv
  refine aw_iload 0 dX4_make_113 rfl ?_
  refine aw_if_eq 145 dX4_make_115 (by decide) (fun c19 => ?_) (fun c19 => ?_)
  · have hv := hv.1 c19
    refine aw_iinc 5 (v := x4 + 1) (lv' := [(4, .int (x4 + 1)), (6, .int xs0), (0, .ref x0), (1, .int x1), (2, .int x2), (3, .ref x3)]) dX4_make_145 rfl rfl (Nat.le_of_ble_eq_true rfl) rfl ?_
    refine aw_goto 44 dX4_make_148 (by decide) ?_
    refine aw_sub [2, 3, 4, 5, 0] rfl ?_
    exact hv hc hs
  · have hv := hv.2 c19
    refine aw_aload_n 1 (x := x0) dX4_make_118 rfl rfl ?_
    refine aw_iload_n 2 dX4_make_119 rfl rfl ?_
    refine aw_iconst (v := 1) dX4_make_120 (by decide) ?_
    refine aw_iadd dX4_make_121 ?_
    refine aw_iload 5 dX4_make_122 rfl ?_
    refine aw_aload_n 1 (x := x0) dX4_make_124 rfl rfl ?_
    obtain ⟨fs, y20, he, hx, hv⟩ := hv
    refine aw_get (v := .int y20) he rfl in_X4 2 (by decide) q304 (Or.inl rfl) hx dX4_make_125 ?_
    have J9 : AW l G mX4_make d mc ms P 141 [(6, .int xs0), (0, .ref x0), (1, .int x1), (2, .int x2), (3, .ref x3), (4, .int x4)] [.int (if x4 = y20 then x2 else x2 ||| ((1 : Int32) <<< (x4 &&& 31))), .int (x1 + (1 : Int32)), .ref x0] h18 c s := by
      refine aw_aload_n 4 (x := x3) dX4_make_141 rfl rfl ?_
      obtain ⟨⟨fs, he⟩, hv⟩ := hv
      obtain ⟨d2, mc2, ms2, Q, hM, hd9, hc9, hs9, hv, hx⟩ := hv
      refine aw_callV (rest := []) hM he rfl rfl nX4_make q216 q218 qs1 q122 q219 dX4_make_142 rfl hd9 (by decide) (Nat.le_of_ble_eq_true rfl) hc9 hs9 ?_ ?_
      rotate_left
      · exact fun E h2 q => aX_out (hx E h2 q) rfl hc9 hs9
      intro v9 h23 hq
      have hv := hv v9 h23 hq
      obtain ⟨rfl, hv⟩ := hv
      refine aw_eqv (pc2 := 145) (st2 := []) rfl rfl rfl rfl ?_
      revert hv hc9 hs9; generalize c + mc2 = c24; generalize s + ms2 = s25; intro hc9 hs9 hv
      refine aw_iinc 5 (v := x4 + 1) (lv' := [(4, .int (x4 + 1)), (6, .int xs0), (0, .ref x0), (1, .int x1), (2, .int x2), (3, .ref x3)]) dX4_make_145 rfl rfl (Nat.le_of_ble_eq_true rfl) rfl ?_
      refine aw_goto 44 dX4_make_148 (by decide) ?_
      refine aw_sub [2, 3, 4, 5, 0] rfl ?_
      exact hv hc9 hs9
    refine aw_icmp_ne 135 dX4_make_128 (by decide) (fun c21 => ?_) (fun c21 => ?_)
    · have J9 := aw_ifF c21 J9
      refine aw_iload_n 3 dX4_make_135 rfl rfl ?_
      refine aw_iconst (v := 1) dX4_make_136 (by decide) ?_
      refine aw_iload 5 dX4_make_137 rfl ?_
      refine aw_ishl dX4_make_139 ?_
      refine aw_ior dX4_make_140 ?_
      exact J9
    · have J9 := aw_ifT c21 J9
      refine aw_iload_n 3 dX4_make_131 rfl rfl ?_
      refine aw_goto 141 dX4_make_132 (by decide) ?_
      exact J9
def V_X4_make_0 (l : Launch) (G : aG) (d mc ms : Nat) (P : aR → aH → Prop) (x0 : Nat) (x1 : Int32) (x2 : Int32) (x3 : Nat) (h : aH) : Prop :=
  vI h x0 4 1 fun y26 =>
  (¬ x1 = y26 → 
    T_X4_make_44 l G d mc ms P x0 x1 x2 x3 0 h 0 0
    ) ∧ (x1 = y26 → 
    vI h x0 4 1 fun y28 =>
    vNewA .int h y28 mc ms 0 0 fun a29 h30 c31 s32 => h a29 = none →
    vI h30 x0 4 1 fun y34 =>
    1 ≤ d ∧ vCpyI .int h30 x3 (0 : Int32) a29 (0 : Int32) y34 fun h35 =>
    vR h35 x0 4 0 fun a36 =>
    vIs h35 a36 9 (
    vC l G mJ2_add (wsN mJ2_add) d mc ms [.ref a36, .ref a29] h35 c31 s32 (xP P) (kI fun y37 h38 c39 s40 => 
    P (.inl none) h38))
    )
set_option maxHeartbeats 4000000 in
theorem A_X4_make {l : Launch} {G : aG} {d mc ms : Nat} {P : aR → aH → Prop} {x0 : Nat} {x1 : Int32} {x2 : Int32} {x3 : Nat} {h : aH} (hl : l.stackTraces = false) (hv : V_X4_make_0 l G d mc ms P x0 x1 x2 x3 h) : aC l G mX4_make (wsN mX4_make) d mc ms [.ref x0, .int x1, .int x2, .ref x3] h P := by
  refine aC_ofF (M := mX4_make) rfl pX4_make (Nat.le_of_ble_eq_true rfl) hl ?_
  refine aw_eqv (lv2 := [(0, .ref x0), (1, .int x1), (2, .int x2), (3, .ref x3)]) rfl rfl rfl rfl ?_
  unfold V_X4_make_0 at hv
  refine aw_iload_n 1 dX4_make_0 rfl rfl ?_
  refine aw_aload_n 0 (x := x0) dX4_make_1 rfl rfl ?_
  obtain ⟨fs, y26, he, hx, hv⟩ := hv
  refine aw_get (v := .int y26) he rfl in_X4 1 (by decide) q302 (Or.inl rfl) hx dX4_make_2 ?_
  refine aw_icmp_ne 41 dX4_make_5 (by decide) (fun c27 => ?_) (fun c27 => ?_)
  · have hv := hv.1 c27
    refine aw_iconst (v := 0) dX4_make_41 (by decide) ?_
    refine aw_istore (lv' := [(4, .int 0), (0, .ref x0), (1, .int x1), (2, .int x2), (3, .ref x3)]) dX4_make_42 (Nat.le_of_ble_eq_true rfl) rfl ?_
    refine aw_sub [1, 2, 3, 4, 0] rfl ?_
    exact hv (Nat.zero_le _) (Nat.zero_le _)
  · have hv := hv.2 c27
    refine aw_aload_n 0 (x := x0) dX4_make_8 rfl rfl ?_
    obtain ⟨fs, y28, he, hx, hv⟩ := hv
    refine aw_get (v := .int y28) he rfl in_X4 1 (by decide) q302 (Or.inl rfl) hx dX4_make_9 ?_
    obtain ⟨N9, hn9, hN9, hb9, hc9, hs9, hv⟩ := hv
    refine aw_newa (atype := .int) (ty := .int) (a0 := (N9, .inl fun _ => 0)) rfl 0 rfl q215 (fun _ => rfl) hn9 hN9 (by show _ * 4 ≤ _; omega) (fun _ _ h9 => h9) hc9 hs9 dX4_make_12 (fun a29 g33 => ?_)
    have hv := hv a29 g33 g33
    refine aw_eqv (pc2 := 14) (st2 := [.ref a29]) rfl rfl rfl rfl ?_
    revert hv hc9 hs9; generalize aUp h a29 (.inl (.int, (N9, .inl fun _ => 0))) = h30; generalize 0 + 1 = c31; generalize 0 + N9 = s32; intro hc9 hs9 hv
    refine aw_astore (lv' := [(4, .ref a29), (0, .ref x0), (1, .int x1), (2, .int x2), (3, .ref x3)]) dX4_make_14 (Nat.le_of_ble_eq_true rfl) rfl ?_
    refine aw_aload_n 4 (x := x3) dX4_make_16 rfl rfl ?_
    refine aw_iconst (v := 0) dX4_make_17 (by decide) ?_
    refine aw_aload 0 (x := a29) dX4_make_18 rfl ?_
    refine aw_iconst (v := 0) dX4_make_20 (by decide) ?_
    refine aw_aload_n 1 (x := x0) dX4_make_21 rfl rfl ?_
    obtain ⟨fs, y34, he, hx, hv⟩ := hv
    refine aw_get (v := .int y34) he rfl in_X4 1 (by decide) q302 (Or.inl rfl) hx dX4_make_22 ?_
    obtain ⟨hd9, n0, n1, f9, g9, he0, he1, w1, w2, w3, w4, w5, hfit, hv⟩ := hv
    refine aw_copyI 0 rfl rfl q220 q222 q221 q126 he0 he1 w1 w2 w3 w4 w5 hfit hd9 (Nat.le_of_ble_eq_true rfl) rfl dX4_make_25 ?_
    revert hv; generalize aUp h30 a29 (aInts .int n1 (va_cpy f9 g9 ((0 : Int32)).toNatClampNeg ((0 : Int32)).toNatClampNeg (y34).toNatClampNeg)) = h35; intro hv
    refine aw_aload_n 1 (x := x0) dX4_make_28 rfl rfl ?_
    obtain ⟨fs, a36, he, hx, hv⟩ := hv
    refine aw_get (v := .ref a36) he rfl in_X4 0 (by decide) q300 (Or.inl rfl) hx dX4_make_29 ?_
    refine aw_aload 0 (x := a29) dX4_make_32 rfl ?_
    obtain ⟨⟨fs, he⟩, hv⟩ := hv
    obtain ⟨d2, mc2, ms2, Q, hM, hd9, hc9, hs9, hv, hx⟩ := hv
    refine aw_callF (rest := []) (x := ⟨"java/util/List", "add", "(Ljava/lang/Object;)Z"⟩) hM he rfl (by decide +kernel : aNoMH ⟨"java/util/List", "add", "(Ljava/lang/Object;)Z"⟩ 1) (by decide +kernel) q224 q230 q228 q125 q232 dX4_make_34 rfl hd9 (by decide) (Nat.le_of_ble_eq_true rfl) hc9 hs9 ?_ ?_
    rotate_left
    · exact fun E h2 q => aX_out (hx E h2 q) rfl hc9 hs9
    intro v9 h38 hq
    have hv := hv v9 h38 hq
    obtain ⟨y37, rfl, hv⟩ := hv
    refine aw_eqv (pc2 := 39) (st2 := [.int y37]) rfl rfl rfl rfl ?_
    revert hv hc9 hs9; generalize c31 + mc2 = c39; generalize s32 + ms2 = s40; intro hc9 hs9 hv
    refine aw_pop dX4_make_39 rfl ?_
    exact aw_vret rfl dX4_make_40 hv hc9 hs9
def V_X4_init_0 (l : Launch) (G : aG) (d mc ms : Nat) (P : aR → aH → Prop) (x0 : Nat) (x1 : Int32) (x2 : Int32) (h : aH) : Prop :=
  1 ≤ d ∧
  vNew h 9 3 [.int 0, .null, .int 0] mc ms 0 0 fun a1 h2 c3 s4 => h a1 = none →
  vC l G mJ2_init (wsN mJ2_init) d mc ms [.ref a1] h2 c3 s4 (xP P) (kV fun h7 c8 s9 => 
  vPut h7 x0 4 0 (.ref a1) fun h10 =>
  vPut h10 x0 4 1 (.int x1) fun h11 =>
  vPut h11 x0 4 2 (.int x2) fun h12 =>
  vNewA .int h12 x1 mc ms c8 s9 fun a13 h14 c15 s16 => h12 a13 = none →
  vIs h14 x0 4 (
  vC l G mX4_make (wsN mX4_make) d mc ms [.ref x0, .int 0, .int 0, .ref a13] h14 c15 s16 (xP P) (kV fun h19 c20 s21 => 
  P (.inl none) h19)))
set_option maxHeartbeats 4000000 in
theorem A_X4_init {l : Launch} {G : aG} {d mc ms : Nat} {P : aR → aH → Prop} {x0 : Nat} {x1 : Int32} {x2 : Int32} {h : aH} (hl : l.stackTraces = false) (hv : V_X4_init_0 l G d mc ms P x0 x1 x2 h) : aC l G mX4_init (wsN mX4_init) d mc ms [.ref x0, .int x1, .int x2] h P := by
  refine aC_ofF (M := mX4_init) rfl pX4_init (Nat.le_of_ble_eq_true rfl) hl ?_
  refine aw_eqv (lv2 := [(0, .ref x0), (1, .int x1), (2, .int x2)]) rfl rfl rfl rfl ?_
  unfold V_X4_init_0 at hv
  refine aw_aload_n 0 (x := x0) dX4_init_0 rfl rfl ?_
  obtain ⟨hd9, hv⟩ := hv
  refine aw_objInit q188 q159 q160 hd9 (Nat.le_of_ble_eq_true rfl) dX4_init_1 ?_
  refine aw_aload_n 0 (x := x0) dX4_init_4 rfl rfl ?_
  obtain ⟨hc9, hs9, hv⟩ := hv
  refine aw_new (N := 3) (fs := [.int 0, .null, .int 0]) (rfl : aCl[9]? = _) in_J2 tyJ2_ok q189 q190 q125 (by decide) hc9 hs9 dX4_init_5 (fun a1 g5 => ?_)
  have hv := hv a1 g5 g5
  refine aw_eqv (pc2 := 8) (st2 := [.ref a1, .ref x0]) rfl rfl rfl rfl ?_
  revert hv hc9 hs9; generalize aUp h a1 (.inr (9, [.int 0, .null, .int 0])) = h2; generalize 0 + 1 = c3; generalize 0 + 3 = s4; intro hc9 hs9 hv
  refine aw_dup dX4_init_8 rfl ?_
  obtain ⟨d2, mc2, ms2, Q, hM, hd9, hc9, hs9, hv, hx⟩ := hv
  refine aw_callI (rest := [.ref a1, .ref x0]) rfl hM nJ2_init rfl q191 q192 q125 q193 dX4_init_9 rfl hd9 (by decide) (Nat.le_of_ble_eq_true rfl) hc9 hs9 ?_ ?_
  rotate_left
  · exact fun E h2 q => aX_out (hx E h2 q) rfl hc9 hs9
  intro v9 h7 hq
  have hv := hv v9 h7 hq
  obtain ⟨rfl, hv⟩ := hv
  refine aw_eqv (pc2 := 12) (st2 := [.ref a1, .ref x0]) rfl rfl rfl rfl ?_
  revert hv hc9 hs9; generalize c3 + mc2 = c8; generalize s4 + ms2 = s9; intro hc9 hs9 hv
  obtain ⟨fs, he, hk9, hv⟩ := hv
  refine aw_putF he rfl in_X4 tyX4_ok nmX4 0 (by decide) q300 (Or.inl rfl) rfl rfl rfl rfl rfl hk9 rfl dX4_init_12 ?_
  revert hv; generalize aUp h7 x0 (.inr (4, fs.set 0 (.ref a1))) = h10; intro hv
  refine aw_aload_n 0 (x := x0) dX4_init_15 rfl rfl ?_
  refine aw_iload_n 1 dX4_init_16 rfl rfl ?_
  obtain ⟨fs, he, hk9, hv⟩ := hv
  refine aw_putF he rfl in_X4 tyX4_ok nmX4 1 (by decide) q302 (Or.inl rfl) rfl rfl rfl rfl rfl hk9 rfl dX4_init_17 ?_
  revert hv; generalize aUp h10 x0 (.inr (4, fs.set 1 (.int x1))) = h11; intro hv
  refine aw_aload_n 0 (x := x0) dX4_init_20 rfl rfl ?_
  refine aw_iload_n 2 dX4_init_21 rfl rfl ?_
  obtain ⟨fs, he, hk9, hv⟩ := hv
  refine aw_putF he rfl in_X4 tyX4_ok nmX4 2 (by decide) q304 (Or.inl rfl) rfl rfl rfl rfl rfl hk9 rfl dX4_init_22 ?_
  revert hv; generalize aUp h11 x0 (.inr (4, fs.set 2 (.int x2))) = h12; intro hv
  refine aw_aload_n 0 (x := x0) dX4_init_25 rfl rfl ?_
  refine aw_iconst (v := 0) dX4_init_26 (by decide) ?_
  refine aw_iconst (v := 0) dX4_init_27 (by decide) ?_
  refine aw_iload_n 1 dX4_init_28 rfl rfl ?_
  obtain ⟨N9, hn9, hN9, hb9, hc9, hs9, hv⟩ := hv
  refine aw_newa (atype := .int) (ty := .int) (a0 := (N9, .inl fun _ => 0)) rfl 0 rfl q215 (fun _ => rfl) hn9 hN9 (by show _ * 4 ≤ _; omega) (fun _ _ h9 => h9) hc9 hs9 dX4_init_29 (fun a13 g17 => ?_)
  have hv := hv a13 g17 g17
  refine aw_eqv (pc2 := 31) (st2 := [.ref a13, .int 0, .int 0, .ref x0]) rfl rfl rfl rfl ?_
  revert hv hc9 hs9; generalize aUp h12 a13 (.inl (.int, (N9, .inl fun _ => 0))) = h14; generalize c8 + 1 = c15; generalize s9 + N9 = s16; intro hc9 hs9 hv
  obtain ⟨⟨fs, he⟩, hv⟩ := hv
  obtain ⟨d2, mc2, ms2, Q, hM, hd9, hc9, hs9, hv, hx⟩ := hv
  refine aw_callV (rest := []) hM he rfl rfl nX4_make q216 q218 qs1 q122 q219 dX4_init_31 rfl hd9 (by decide) (Nat.le_of_ble_eq_true rfl) hc9 hs9 ?_ ?_
  rotate_left
  · exact fun E h2 q => aX_out (hx E h2 q) rfl hc9 hs9
  intro v9 h19 hq
  have hv := hv v9 h19 hq
  obtain ⟨rfl, hv⟩ := hv
  refine aw_eqv (pc2 := 34) (st2 := []) rfl rfl rfl rfl ?_
  revert hv hc9 hs9; generalize c15 + mc2 = c20; generalize s16 + ms2 = s21; intro hc9 hs9 hv
  exact aw_vret rfl dX4_init_34 hv hc9 hs9
def V_X3_lineCount_0 (l : Launch) (G : aG) (d mc ms : Nat) (P : aR → aH → Prop) (x0 : Nat) (h : aH) : Prop :=
  vI h x0 3 4 fun y1 =>
  vI h x0 3 7 fun y2 =>
  P (.inl (some (.int (((2 : Int32) * y1) + (if y2 = 0 then (0 : Int32) else 2))))) h
set_option maxHeartbeats 4000000 in
theorem A_X3_lineCount {l : Launch} {G : aG} {d mc ms : Nat} {P : aR → aH → Prop} {x0 : Nat} {h : aH} (hl : l.stackTraces = false) (hv : V_X3_lineCount_0 l G d mc ms P x0 h) : aC l G mX3_lineCount (wsN mX3_lineCount) d mc ms [.ref x0] h P := by
  refine aC_ofF (M := mX3_lineCount) rfl pX3_lineCount (Nat.le_of_ble_eq_true rfl) hl ?_
  refine aw_eqv (lv2 := [(0, .ref x0)]) rfl rfl rfl rfl ?_
  unfold V_X3_lineCount_0 at hv
  refine aw_iconst (v := 2) dX3_lineCount_0 (by decide) ?_
  refine aw_aload_n 0 (x := x0) dX3_lineCount_1 rfl rfl ?_
  obtain ⟨fs, y1, he, hx, hv⟩ := hv
  refine aw_get (v := .int y1) he rfl in_X3 4 (by decide) q330 (Or.inl rfl) hx dX3_lineCount_2 ?_
  refine aw_imul dX3_lineCount_5 ?_
  refine aw_aload_n 0 (x := x0) dX3_lineCount_6 rfl rfl ?_
  obtain ⟨fs, y2, he, hx, hv⟩ := hv
  refine aw_get (v := .int y2) he rfl in_X3 7 (by decide) q338 (Or.inl rfl) hx dX3_lineCount_7 ?_
  have J9 : AW l G mX3_lineCount d mc ms P 18 [(0, .ref x0)] [.int (if y2 = 0 then (0 : Int32) else 2), .int ((2 : Int32) * y1)] h 0 0 := by
    refine aw_iadd dX3_lineCount_18 ?_
    exact aw_iret rfl dX3_lineCount_19 hv (Nat.zero_le _) (Nat.zero_le _)
  refine aw_if_eq 17 dX3_lineCount_10 (by decide) (fun c3 => ?_) (fun c3 => ?_)
  · have J9 := aw_ifT c3 J9
    refine aw_iconst (v := 0) dX3_lineCount_17 (by decide) ?_
    exact J9
  · have J9 := aw_ifF c3 J9
    refine aw_iconst (v := 2) dX3_lineCount_13 (by decide) ?_
    refine aw_goto 18 dX3_lineCount_14 (by decide) ?_
    exact J9
def V_X3_cellOf_0 (l : Launch) (G : aG) (d mc ms : Nat) (P : aR → aH → Prop) (x0 : Nat) (x1 : Int32) (x2 : Int32) (h : aH) : Prop :=
  vI h x0 3 4 fun y1 =>
  (y1 ≤ x1 → 
    vI h x0 3 4 fun y3 =>
    (((2 : Int32) * y3) ≤ x1 → 
      vI h x0 3 4 fun y5 =>
      (¬ x1 = ((2 : Int32) * y5) → 
        vI h x0 3 4 fun y7 =>
        P (.inl (some (.int ((y7 - (1 : Int32)) * (x2 + (1 : Int32)))))) h
        ) ∧ (x1 = ((2 : Int32) * y5) → 
        vI h x0 3 4 fun y8 =>
        P (.inl (some (.int ((y8 + (1 : Int32)) * x2)))) h
        )
      ) ∧ (¬ ((2 : Int32) * y3) ≤ x1 → 
      vI h x0 3 4 fun y9 =>
      vI h x0 3 4 fun y10 =>
      P (.inl (some (.int (((y9 * x2) + x1) - y10)))) h
      )
    ) ∧ (¬ y1 ≤ x1 → 
    vI h x0 3 4 fun y11 =>
    P (.inl (some (.int ((y11 * x1) + x2)))) h
    )
set_option maxHeartbeats 4000000 in
theorem A_X3_cellOf {l : Launch} {G : aG} {d mc ms : Nat} {P : aR → aH → Prop} {x0 : Nat} {x1 : Int32} {x2 : Int32} {h : aH} (hl : l.stackTraces = false) (hv : V_X3_cellOf_0 l G d mc ms P x0 x1 x2 h) : aC l G mX3_cellOf (wsN mX3_cellOf) d mc ms [.ref x0, .int x1, .int x2] h P := by
  refine aC_ofF (M := mX3_cellOf) rfl pX3_cellOf (Nat.le_of_ble_eq_true rfl) hl ?_
  refine aw_eqv (lv2 := [(0, .ref x0), (1, .int x1), (2, .int x2)]) rfl rfl rfl rfl ?_
  unfold V_X3_cellOf_0 at hv
  refine aw_iload_n 1 dX3_cellOf_0 rfl rfl ?_
  refine aw_aload_n 0 (x := x0) dX3_cellOf_1 rfl rfl ?_
  obtain ⟨fs, y1, he, hx, hv⟩ := hv
  refine aw_get (v := .int y1) he rfl in_X3 4 (by decide) q330 (Or.inl rfl) hx dX3_cellOf_2 ?_
  refine aw_icmp_ge 17 dX3_cellOf_5 (by decide) (fun c2 => ?_) (fun c2 => ?_)
  · have hv := hv.1 c2
    refine aw_iload_n 1 dX3_cellOf_17 rfl rfl ?_
    refine aw_iconst (v := 2) dX3_cellOf_18 (by decide) ?_
    refine aw_aload_n 0 (x := x0) dX3_cellOf_19 rfl rfl ?_
    obtain ⟨fs, y3, he, hx, hv⟩ := hv
    refine aw_get (v := .int y3) he rfl in_X3 4 (by decide) q330 (Or.inl rfl) hx dX3_cellOf_20 ?_
    refine aw_imul dX3_cellOf_23 ?_
    refine aw_icmp_ge 41 dX3_cellOf_24 (by decide) (fun c4 => ?_) (fun c4 => ?_)
    · have hv := hv.1 c4
      refine aw_iload_n 1 dX3_cellOf_41 rfl rfl ?_
      refine aw_iconst (v := 2) dX3_cellOf_42 (by decide) ?_
      refine aw_aload_n 0 (x := x0) dX3_cellOf_43 rfl rfl ?_
      obtain ⟨fs, y5, he, hx, hv⟩ := hv
      refine aw_get (v := .int y5) he rfl in_X3 4 (by decide) q330 (Or.inl rfl) hx dX3_cellOf_44 ?_
      refine aw_imul dX3_cellOf_47 ?_
      refine aw_icmp_ne 62 dX3_cellOf_48 (by decide) (fun c6 => ?_) (fun c6 => ?_)
      · have hv := hv.1 c6
        refine aw_aload_n 0 (x := x0) dX3_cellOf_62 rfl rfl ?_
        obtain ⟨fs, y7, he, hx, hv⟩ := hv
        refine aw_get (v := .int y7) he rfl in_X3 4 (by decide) q330 (Or.inl rfl) hx dX3_cellOf_63 ?_
        refine aw_iconst (v := 1) dX3_cellOf_66 (by decide) ?_
        refine aw_isub dX3_cellOf_67 ?_
        refine aw_iload_n 2 dX3_cellOf_68 rfl rfl ?_
        refine aw_iconst (v := 1) dX3_cellOf_69 (by decide) ?_
        refine aw_iadd dX3_cellOf_70 ?_
        refine aw_imul dX3_cellOf_71 ?_
        exact aw_iret rfl dX3_cellOf_72 hv (Nat.zero_le _) (Nat.zero_le _)
      · have hv := hv.2 c6
        refine aw_aload_n 0 (x := x0) dX3_cellOf_51 rfl rfl ?_
        obtain ⟨fs, y8, he, hx, hv⟩ := hv
        refine aw_get (v := .int y8) he rfl in_X3 4 (by decide) q330 (Or.inl rfl) hx dX3_cellOf_52 ?_
        refine aw_iconst (v := 1) dX3_cellOf_55 (by decide) ?_
        refine aw_iadd dX3_cellOf_56 ?_
        refine aw_iload_n 2 dX3_cellOf_57 rfl rfl ?_
        refine aw_imul dX3_cellOf_58 ?_
        refine aw_goto 72 dX3_cellOf_59 (by decide) ?_
        exact aw_iret rfl dX3_cellOf_72 hv (Nat.zero_le _) (Nat.zero_le _)
    · have hv := hv.2 c4
      refine aw_aload_n 0 (x := x0) dX3_cellOf_27 rfl rfl ?_
      obtain ⟨fs, y9, he, hx, hv⟩ := hv
      refine aw_get (v := .int y9) he rfl in_X3 4 (by decide) q330 (Or.inl rfl) hx dX3_cellOf_28 ?_
      refine aw_iload_n 2 dX3_cellOf_31 rfl rfl ?_
      refine aw_imul dX3_cellOf_32 ?_
      refine aw_iload_n 1 dX3_cellOf_33 rfl rfl ?_
      refine aw_iadd dX3_cellOf_34 ?_
      refine aw_aload_n 0 (x := x0) dX3_cellOf_35 rfl rfl ?_
      obtain ⟨fs, y10, he, hx, hv⟩ := hv
      refine aw_get (v := .int y10) he rfl in_X3 4 (by decide) q330 (Or.inl rfl) hx dX3_cellOf_36 ?_
      refine aw_isub dX3_cellOf_39 ?_
      exact aw_iret rfl dX3_cellOf_40 hv (Nat.zero_le _) (Nat.zero_le _)
  · have hv := hv.2 c2
    refine aw_aload_n 0 (x := x0) dX3_cellOf_8 rfl rfl ?_
    obtain ⟨fs, y11, he, hx, hv⟩ := hv
    refine aw_get (v := .int y11) he rfl in_X3 4 (by decide) q330 (Or.inl rfl) hx dX3_cellOf_9 ?_
    refine aw_iload_n 1 dX3_cellOf_12 rfl rfl ?_
    refine aw_imul dX3_cellOf_13 ?_
    refine aw_iload_n 2 dX3_cellOf_14 rfl rfl ?_
    refine aw_iadd dX3_cellOf_15 ?_
    exact aw_iret rfl dX3_cellOf_16 hv (Nat.zero_le _) (Nat.zero_le _)
def T_X3_prepare_40 (l : Launch) (G : aG) (d mc ms : Nat) (P : aR → aH → Prop) (x0 : Nat) (xs0 : Int32) (h : aH) (c s : Nat) : Prop := c ≤ mc → s ≤ ms → AW l G mX3_prepare d mc ms P 40 [(0, .ref x0)] [.int xs0] h c s
def T_X3_prepare_73 (l : Launch) (G : aG) (d mc ms : Nat) (P : aR → aH → Prop) (x0 : Nat) (x2 : Int32) (h : aH) (c s : Nat) : Prop := c ≤ mc → s ≤ ms → AW l G mX3_prepare d mc ms P 73 [(0, .ref x0), (2, .int x2)] [] h c s
def T_X3_prepare_101 (l : Launch) (G : aG) (d mc ms : Nat) (P : aR → aH → Prop) (x0 : Nat) (x2 : Int32) (h : aH) (c s : Nat) : Prop := c ≤ mc → s ≤ ms → AW l G mX3_prepare d mc ms P 101 [(0, .ref x0), (2, .int x2)] [] h c s
def T_X3_prepare_111 (l : Launch) (G : aG) (d mc ms : Nat) (P : aR → aH → Prop) (x0 : Nat) (x2 : Int32) (x3 : Int32) (h : aH) (c s : Nat) : Prop := c ≤ mc → s ≤ ms → AW l G mX3_prepare d mc ms P 111 [(0, .ref x0), (2, .int x2), (3, .int x3)] [] h c s
def V_X3_prepare_40 (l : Launch) (G : aG) (d mc ms : Nat) (P : aR → aH → Prop) (x0 : Nat) (xs0 : Int32) (h : aH) (c s : Nat) : Prop :=
  (xs0 = 0 → 
    vNew h 4 3 [.null, .int 0, .int 0] mc ms c s fun a2 h3 c4 s5 => h a2 = none →
    vI h3 x0 3 4 fun y7 =>
    vI h3 x0 3 5 fun y8 =>
    vC l G mX4_init (wsN mX4_init) d mc ms [.ref a2, .int y7, .int y8] h3 c4 s5 (xP P) (kV fun h10 c11 s12 => 
    vPut h10 x0 3 3 (.ref a2) fun h13 =>
    T_X3_prepare_73 l G d mc ms P x0 0 h13 c11 s12)
    ) ∧ (¬ xs0 = 0 → 
    vO h x0 3 3 fun o14 =>
    vPut h x0 3 3 (va_rf o14) fun h15 =>
    T_X3_prepare_73 l G d mc ms P x0 0 h15 c s
    )
set_option maxHeartbeats 4000000 in
theorem A_X3_prepare_40 {l : Launch} {G : aG} {d mc ms : Nat} {P : aR → aH → Prop} {x0 : Nat} {xs0 : Int32} {h : aH} {c s : Nat} (hl : l.stackTraces = false) (hv : V_X3_prepare_40 l G d mc ms P x0 xs0 h c s) : T_X3_prepare_40 l G d mc ms P x0 xs0 h c s := by
  intro hc hs
  unfold V_X3_prepare_40 at hv
  refine aw_istore_n (lv' := [(1, .int xs0), (0, .ref x0)]) dX3_prepare_40 rfl (Nat.le_of_ble_eq_true rfl) rfl ?_
  refine aw_aload_n 1 (x := x0) dX3_prepare_41 rfl rfl ?_
  refine aw_iload_n 0 dX3_prepare_42 rfl rfl ?_
  refine aw_if_eq 53 dX3_prepare_43 (by decide) (fun c1 => ?_) (fun c1 => ?_)
  · have hv := hv.1 c1
    obtain ⟨hc9, hs9, hv⟩ := hv
    refine aw_new (N := 3) (fs := [.null, .int 0, .int 0]) (rfl : aCl[4]? = _) in_X4 tyX4_ok q183 q184 q122 (by decide) hc9 hs9 dX3_prepare_53 (fun a2 g6 => ?_)
    have hv := hv a2 g6 g6
    refine aw_eqv (pc2 := 56) (st2 := [.ref a2, .ref x0]) rfl rfl rfl rfl ?_
    revert hv hc9 hs9; generalize aUp h a2 (.inr (4, [.null, .int 0, .int 0])) = h3; generalize c + 1 = c4; generalize s + 3 = s5; intro hc9 hs9 hv
    refine aw_dup dX3_prepare_56 rfl ?_
    refine aw_aload_n 1 (x := x0) dX3_prepare_57 rfl rfl ?_
    obtain ⟨fs, y7, he, hx, hv⟩ := hv
    refine aw_get (v := .int y7) he rfl in_X3 4 (by decide) q330 (Or.inl rfl) hx dX3_prepare_58 ?_
    refine aw_aload_n 1 (x := x0) dX3_prepare_61 rfl rfl ?_
    obtain ⟨fs, y8, he, hx, hv⟩ := hv
    refine aw_get (v := .int y8) he rfl in_X3 5 (by decide) q334 (Or.inl rfl) hx dX3_prepare_62 ?_
    obtain ⟨d2, mc2, ms2, Q, hM, hd9, hc9, hs9, hv, hx⟩ := hv
    refine aw_callI (rest := [.ref a2, .ref x0]) rfl hM nX4_init rfl q185 q186 q122 q187 dX3_prepare_65 rfl hd9 (by decide) (Nat.le_of_ble_eq_true rfl) hc9 hs9 ?_ ?_
    rotate_left
    · exact fun E h2 q => aX_out (hx E h2 q) rfl hc9 hs9
    intro v9 h10 hq
    have hv := hv v9 h10 hq
    obtain ⟨rfl, hv⟩ := hv
    refine aw_eqv (pc2 := 68) (st2 := [.ref a2, .ref x0]) rfl rfl rfl rfl ?_
    revert hv hc9 hs9; generalize c4 + mc2 = c11; generalize s5 + ms2 = s12; intro hc9 hs9 hv
    obtain ⟨fs, he, hk9, hv⟩ := hv
    refine aw_put he rfl in_X3 tyX3_ok nmX3 3 (by decide) q328 (Or.inl rfl) rfl rfl rfl hk9 rfl dX3_prepare_68 ?_
    revert hv; generalize aUp h10 x0 (.inr (3, fs.set 3 (.ref a2))) = h13; intro hv
    refine aw_iconst (v := 0) dX3_prepare_71 (by decide) ?_
    refine aw_istore_n (lv' := [(2, .int 0), (1, .int xs0), (0, .ref x0)]) dX3_prepare_72 rfl (Nat.le_of_ble_eq_true rfl) rfl ?_
    refine aw_sub [2, 0] rfl ?_
    exact hv hc9 hs9
  · have hv := hv.2 c1
    refine aw_aload_n 1 (x := x0) dX3_prepare_46 rfl rfl ?_
    obtain ⟨fs, o14, he, hx, hv⟩ := hv
    refine aw_get (v := va_rf o14) he rfl in_X3 3 (by decide) q328 (Or.inl rfl) hx dX3_prepare_47 ?_
    refine aw_goto 68 dX3_prepare_50 (by decide) ?_
    obtain ⟨fs, he, hk9, hv⟩ := hv
    refine aw_put he rfl in_X3 tyX3_ok nmX3 3 (by decide) q328 (Or.inl rfl) rfl (by cases o14 <;> rfl) (by cases o14 <;> rfl) hk9 rfl dX3_prepare_68 ?_
    revert hv; generalize aUp h x0 (.inr (3, fs.set 3 (va_rf o14))) = h15; intro hv
    refine aw_iconst (v := 0) dX3_prepare_71 (by decide) ?_
    refine aw_istore_n (lv' := [(2, .int 0), (1, .int xs0), (0, .ref x0)]) dX3_prepare_72 rfl (Nat.le_of_ble_eq_true rfl) rfl ?_
    refine aw_sub [2, 0] rfl ?_
    exact hv hc hs
def V_X3_prepare_73 (l : Launch) (G : aG) (d mc ms : Nat) (P : aR → aH → Prop) (x0 : Nat) (x2 : Int32) (h : aH) (c s : Nat) : Prop :=
  vI h x0 3 4 fun y16 =>
  vI h x0 3 4 fun y17 =>
  ((y16 * y17) ≤ x2 → 
    T_X3_prepare_101 l G d mc ms P x0 0 h c s
    ) ∧ (¬ (y16 * y17) ≤ x2 → 
    vR h x0 3 2 fun a19 =>
    vSt .int h a19 x2 (0 : Int32) fun h20 =>
    T_X3_prepare_73 l G d mc ms P x0 (x2 + 1) h20 c s
    )
set_option maxHeartbeats 4000000 in
theorem A_X3_prepare_73 {l : Launch} {G : aG} {d mc ms : Nat} {P : aR → aH → Prop} {x0 : Nat} {x2 : Int32} {h : aH} {c s : Nat} (hl : l.stackTraces = false) (hv : V_X3_prepare_73 l G d mc ms P x0 x2 h c s) : T_X3_prepare_73 l G d mc ms P x0 x2 h c s := by
  intro hc hs
  unfold V_X3_prepare_73 at hv
  refine aw_iload_n 1 dX3_prepare_73 rfl rfl ?_
  refine aw_aload_n 0 (x := x0) dX3_prepare_74 rfl rfl ?_
  obtain ⟨fs, y16, he, hx, hv⟩ := hv
  refine aw_get (v := .int y16) he rfl in_X3 4 (by decide) q330 (Or.inl rfl) hx dX3_prepare_75 ?_
  refine aw_aload_n 0 (x := x0) dX3_prepare_78 rfl rfl ?_
  obtain ⟨fs, y17, he, hx, hv⟩ := hv
  refine aw_get (v := .int y17) he rfl in_X3 4 (by decide) q330 (Or.inl rfl) hx dX3_prepare_79 ?_
  refine aw_imul dX3_prepare_82 ?_
  refine aw_icmp_ge 99 dX3_prepare_83 (by decide) (fun c18 => ?_) (fun c18 => ?_)
  · have hv := hv.1 c18
    refine aw_iconst (v := 0) dX3_prepare_99 (by decide) ?_
    refine aw_istore_n (lv' := [(2, .int 0), (0, .ref x0)]) dX3_prepare_100 rfl (Nat.le_of_ble_eq_true rfl) rfl ?_
    refine aw_sub [1, 0] rfl ?_
    exact hv hc hs
  · have hv := hv.2 c18
    refine aw_aload_n 0 (x := x0) dX3_prepare_86 rfl rfl ?_
    obtain ⟨fs, a19, he, hx, hv⟩ := hv
    refine aw_get (v := .ref a19) he rfl in_X3 2 (by decide) q326 (Or.inl rfl) hx dX3_prepare_87 ?_
    refine aw_iload_n 1 dX3_prepare_90 rfl rfl ?_
    refine aw_iconst (v := 0) dX3_prepare_91 (by decide) ?_
    obtain ⟨n9, f9, he, hin, hv⟩ := hv
    refine aw_iast he hin rfl dX3_prepare_92 ?_
    revert hv; generalize aUp h a19 (aInts .int n9 (upd f9 (x2).toNatClampNeg (0 : Int32))) = h20; intro hv
    refine aw_iinc 1 (v := x2 + 1) (lv' := [(2, .int (x2 + 1)), (0, .ref x0)]) dX3_prepare_93 rfl rfl (Nat.le_of_ble_eq_true rfl) rfl ?_
    refine aw_goto 73 dX3_prepare_96 (by decide) ?_
    refine aw_sub [1, 0] rfl ?_
    exact hv hc hs
def V_X3_prepare_101 (l : Launch) (G : aG) (d mc ms : Nat) (P : aR → aH → Prop) (x0 : Nat) (x2 : Int32) (h : aH) (c s : Nat) : Prop :=
  vIs h x0 3 (
  vC l G mX3_lineCount (wsN mX3_lineCount) d mc ms [.ref x0] h c s (xP P) (kI fun y21 h22 c23 s24 => 
  (y21 ≤ x2 → 
    P (.inl none) h22
    ) ∧ (¬ y21 ≤ x2 → 
    T_X3_prepare_111 l G d mc ms P x0 x2 0 h22 c23 s24
    )))
set_option maxHeartbeats 4000000 in
theorem A_X3_prepare_101 {l : Launch} {G : aG} {d mc ms : Nat} {P : aR → aH → Prop} {x0 : Nat} {x2 : Int32} {h : aH} {c s : Nat} (hl : l.stackTraces = false) (hv : V_X3_prepare_101 l G d mc ms P x0 x2 h c s) : T_X3_prepare_101 l G d mc ms P x0 x2 h c s := by
  intro hc hs
  unfold V_X3_prepare_101 at hv
  refine aw_iload_n 1 dX3_prepare_101 rfl rfl ?_
  refine aw_aload_n 0 (x := x0) dX3_prepare_102 rfl rfl ?_
  obtain ⟨⟨fs, he⟩, hv⟩ := hv
  obtain ⟨d2, mc2, ms2, Q, hM, hd9, hc9, hs9, hv, hx⟩ := hv
  refine aw_callV (rest := [.int x2]) hM he rfl rfl nX3_lineCount q313 q314 q315 q121 q316 dX3_prepare_103 rfl hd9 (by decide) (Nat.le_of_ble_eq_true rfl) hc9 hs9 ?_ ?_
  rotate_left
  · exact fun E h2 q => aX_out (hx E h2 q) rfl hc9 hs9
  intro v9 h22 hq
  have hv := hv v9 h22 hq
  obtain ⟨y21, rfl, hv⟩ := hv
  refine aw_eqv (pc2 := 106) (st2 := [.int y21, .int x2]) rfl rfl rfl rfl ?_
  revert hv hc9 hs9; generalize c + mc2 = c23; generalize s + ms2 = s24; intro hc9 hs9 hv
  refine aw_icmp_ge 164 dX3_prepare_106 (by decide) (fun c25 => ?_) (fun c25 => ?_)
  · have hv := hv.1 c25
    exact aw_vret rfl dX3_prepare_164 hv hc9 hs9
  · have hv := hv.2 c25
    refine aw_iconst (v := 0) dX3_prepare_109 (by decide) ?_
    refine aw_istore_n (lv' := [(3, .int 0), (0, .ref x0), (2, .int x2)]) dX3_prepare_110 rfl (Nat.le_of_ble_eq_true rfl) rfl ?_
    refine aw_sub [1, 2, 0] rfl ?_
    exact hv hc9 hs9
def V_X3_prepare_111 (l : Launch) (G : aG) (d mc ms : Nat) (P : aR → aH → Prop) (x0 : Nat) (x2 : Int32) (x3 : Int32) (h : aH) (c s : Nat) : Prop :=
  vI h x0 3 4 fun y26 =>
  (y26 ≤ x3 → 
    T_X3_prepare_101 l G d mc ms P x0 (x2 + 1) h c s
    ) ∧ (¬ y26 ≤ x3 → 
    vR h x0 3 1 fun a28 =>
    vAR (.array .int) h a28 x2 fun a29 =>
    vIs h x0 3 (
    vC l G mX3_cellOf (wsN mX3_cellOf) d mc ms [.ref x0, .int x2, .int x3] h c s (xP P) (kI fun y30 h31 c32 s33 => 
    vSt .int h31 a29 x3 y30 fun h34 =>
    vR h34 x0 3 2 fun a35 =>
    vR h34 x0 3 1 fun a36 =>
    vAR (.array .int) h34 a36 x2 fun a37 =>
    vA .int h34 a37 x3 fun y38 =>
    vA .int h34 a35 y38 fun y39 =>
    vSt .int h34 a35 y38 (y39 ||| ((1 : Int32) <<< (x2 &&& 31))) fun h40 =>
    T_X3_prepare_111 l G d mc ms P x0 x2 (x3 + 1) h40 c32 s33))
    )
set_option maxHeartbeats 4000000 in
theorem A_X3_prepare_111 {l : Launch} {G : aG} {d mc ms : Nat} {P : aR → aH → Prop} {x0 : Nat} {x2 : Int32} {x3 : Int32} {h : aH} {c s : Nat} (hl : l.stackTraces = false) (hv : V_X3_prepare_111 l G d mc ms P x0 x2 x3 h c s) : T_X3_prepare_111 l G d mc ms P x0 x2 x3 h c s := by
  intro hc hs
  unfold V_X3_prepare_111 at hv
  refine aw_iload_n 2 dX3_prepare_111 rfl rfl ?_
  refine aw_aload_n 0 (x := x0) dX3_prepare_112 rfl rfl ?_
  obtain ⟨fs, y26, he, hx, hv⟩ := hv
  refine aw_get (v := .int y26) he rfl in_X3 4 (by decide) q330 (Or.inl rfl) hx dX3_prepare_113 ?_
  refine aw_icmp_ge 158 dX3_prepare_116 (by decide) (fun c27 => ?_) (fun c27 => ?_)
  · have hv := hv.1 c27
    refine aw_iinc 1 (v := x2 + 1) (lv' := [(2, .int (x2 + 1)), (0, .ref x0), (3, .int x3)]) dX3_prepare_158 rfl rfl (Nat.le_of_ble_eq_true rfl) rfl ?_
    refine aw_goto 101 dX3_prepare_161 (by decide) ?_
    refine aw_sub [1, 0] rfl ?_
    exact hv hc hs
  · have hv := hv.2 c27
    refine aw_aload_n 0 (x := x0) dX3_prepare_119 rfl rfl ?_
    obtain ⟨fs, a28, he, hx, hv⟩ := hv
    refine aw_get (v := .ref a28) he rfl in_X3 1 (by decide) q323 (Or.inl rfl) hx dX3_prepare_120 ?_
    refine aw_iload_n 1 dX3_prepare_123 rfl rfl ?_
    obtain ⟨n9, f9, a29, he, hin, hx, hv⟩ := hv
    refine aw_aald 7 rfl rfl he hin dX3_prepare_124 ?_
    rw [hx]
    refine aw_eqv (st2 := [.ref a29]) rfl rfl rfl rfl ?_
    refine aw_iload_n 2 dX3_prepare_125 rfl rfl ?_
    refine aw_aload_n 0 (x := x0) dX3_prepare_126 rfl rfl ?_
    refine aw_iload_n 1 dX3_prepare_127 rfl rfl ?_
    refine aw_iload_n 2 dX3_prepare_128 rfl rfl ?_
    obtain ⟨⟨fs, he⟩, hv⟩ := hv
    obtain ⟨d2, mc2, ms2, Q, hM, hd9, hc9, hs9, hv, hx⟩ := hv
    refine aw_callV (rest := [.int x3, .ref a29]) hM he rfl rfl nX3_cellOf q317 q319 qs5 q121 q320 dX3_prepare_129 rfl hd9 (by decide) (Nat.le_of_ble_eq_true rfl) hc9 hs9 ?_ ?_
    rotate_left
    · exact fun E h2 q => aX_out (hx E h2 q) rfl hc9 hs9
    intro v9 h31 hq
    have hv := hv v9 h31 hq
    obtain ⟨y30, rfl, hv⟩ := hv
    refine aw_eqv (pc2 := 132) (st2 := [.int y30, .int x3, .ref a29]) rfl rfl rfl rfl ?_
    revert hv hc9 hs9; generalize c + mc2 = c32; generalize s + ms2 = s33; intro hc9 hs9 hv
    obtain ⟨n9, f9, he, hin, hv⟩ := hv
    refine aw_iast he hin rfl dX3_prepare_132 ?_
    revert hv; generalize aUp h31 a29 (aInts .int n9 (upd f9 (x3).toNatClampNeg y30)) = h34; intro hv
    refine aw_aload_n 0 (x := x0) dX3_prepare_133 rfl rfl ?_
    obtain ⟨fs, a35, he, hx, hv⟩ := hv
    refine aw_get (v := .ref a35) he rfl in_X3 2 (by decide) q326 (Or.inl rfl) hx dX3_prepare_134 ?_
    refine aw_aload_n 0 (x := x0) dX3_prepare_137 rfl rfl ?_
    obtain ⟨fs, a36, he, hx, hv⟩ := hv
    refine aw_get (v := .ref a36) he rfl in_X3 1 (by decide) q323 (Or.inl rfl) hx dX3_prepare_138 ?_
    refine aw_iload_n 1 dX3_prepare_141 rfl rfl ?_
    obtain ⟨n9, f9, a37, he, hin, hx, hv⟩ := hv
    refine aw_aald 7 rfl rfl he hin dX3_prepare_142 ?_
    rw [hx]
    refine aw_eqv (st2 := [.ref a37, .ref a35]) rfl rfl rfl rfl ?_
    refine aw_iload_n 2 dX3_prepare_143 rfl rfl ?_
    obtain ⟨n9, f9, he, hin, hv⟩ := hv
    refine aw_iald he hin dX3_prepare_144 ?_
    revert hv; generalize f9 (x3).toNatClampNeg = y38; intro hv
    refine aw_dup2_11 dX3_prepare_145 rfl rfl ?_
    obtain ⟨n9, f9, he, hin, hv⟩ := hv
    refine aw_iald he hin dX3_prepare_146 ?_
    revert hv; generalize f9 (y38).toNatClampNeg = y39; intro hv
    refine aw_iconst (v := 1) dX3_prepare_147 (by decide) ?_
    refine aw_iload_n 1 dX3_prepare_148 rfl rfl ?_
    refine aw_ishl dX3_prepare_149 ?_
    refine aw_ior dX3_prepare_150 ?_
    obtain ⟨n9, f9, he, hin, hv⟩ := hv
    refine aw_iast he hin rfl dX3_prepare_151 ?_
    revert hv; generalize aUp h34 a35 (aInts .int n9 (upd f9 (y38).toNatClampNeg (y39 ||| ((1 : Int32) <<< (x2 &&& 31))))) = h40; intro hv
    refine aw_iinc 2 (v := x3 + 1) (lv' := [(3, .int (x3 + 1)), (0, .ref x0), (2, .int x2)]) dX3_prepare_152 rfl rfl (Nat.le_of_ble_eq_true rfl) rfl ?_
    refine aw_goto 111 dX3_prepare_155 (by decide) ?_
    refine aw_sub [1, 2, 0] rfl ?_
    exact hv hc9 hs9
def V_X3_prepare_0 (l : Launch) (G : aG) (d mc ms : Nat) (P : aR → aH → Prop) (x0 : Nat) (h : aH) : Prop :=
  vO h x0 3 3 fun o41 =>
  (o41 = none → 
    T_X3_prepare_40 l G d mc ms P x0 0 h 0 0
    ) ∧ (∀ q42, o41 = some q42 → 
    vO h x0 3 3 fun o44 =>
    vSome o44 fun q45 =>
    vI h q45 4 1 fun y46 =>
    vI h x0 3 4 fun y47 =>
    (¬ y46 = y47 → 
      T_X3_prepare_40 l G d mc ms P x0 0 h 0 0
      ) ∧ (y46 = y47 → 
      vO h x0 3 3 fun o49 =>
      vSome o49 fun q50 =>
      vI h q50 4 2 fun y51 =>
      vI h x0 3 5 fun y52 =>
      T_X3_prepare_40 l G d mc ms P x0 (if y51 = y52 then (1 : Int32) else 0) h 0 0
      )
    )
set_option maxHeartbeats 4000000 in
theorem A_X3_prepare {l : Launch} {G : aG} {d mc ms : Nat} {P : aR → aH → Prop} {x0 : Nat} {h : aH} (hl : l.stackTraces = false) (hv : V_X3_prepare_0 l G d mc ms P x0 h) : aC l G mX3_prepare (wsN mX3_prepare) d mc ms [.ref x0] h P := by
  refine aC_ofF (M := mX3_prepare) rfl pX3_prepare (Nat.le_of_ble_eq_true rfl) hl ?_
  refine aw_eqv (lv2 := [(0, .ref x0)]) rfl rfl rfl rfl ?_
  unfold V_X3_prepare_0 at hv
  refine aw_aload_n 0 (x := x0) dX3_prepare_0 rfl rfl ?_
  obtain ⟨fs, o41, he, hx, hv⟩ := hv
  refine aw_get (v := va_rf o41) he rfl in_X3 3 (by decide) q328 (Or.inl rfl) hx dX3_prepare_1 ?_
  refine aw_ifnull 39 dX3_prepare_4 (by decide) (fun c43 => ?_) (fun q42 c43 => ?_)
  · have hv := hv.1 c43
    refine aw_iconst (v := 0) dX3_prepare_39 (by decide) ?_
    exact hv (Nat.zero_le _) (Nat.zero_le _)
  · have hv := hv.2 q42 c43
    refine aw_eqv (lv2 := [(0, .ref x0)]) (st2 := []) rfl (by first | rfl | (rw [c43]; rfl)) (by first | rfl | (rw [c43]; rfl)) rfl ?_
    refine aw_aload_n 0 (x := x0) dX3_prepare_7 rfl rfl ?_
    obtain ⟨fs, o44, he, hx, hv⟩ := hv
    refine aw_get (v := va_rf o44) he rfl in_X3 3 (by decide) q328 (Or.inl rfl) hx dX3_prepare_8 ?_
    obtain ⟨q45, hq9, hv⟩ := hv
    subst hq9
    refine aw_eqv (lv2 := [(0, .ref x0)]) (st2 := [.ref q45]) rfl rfl rfl rfl ?_
    obtain ⟨fs, y46, he, hx, hv⟩ := hv
    refine aw_getN (v := .int y46) he rfl in_X4 1 (by decide) q303 (Or.inl rfl) hx dX3_prepare_11 ?_
    refine aw_aload_n 0 (x := x0) dX3_prepare_14 rfl rfl ?_
    obtain ⟨fs, y47, he, hx, hv⟩ := hv
    refine aw_get (v := .int y47) he rfl in_X3 4 (by decide) q330 (Or.inl rfl) hx dX3_prepare_15 ?_
    refine aw_icmp_ne 39 dX3_prepare_18 (by decide) (fun c48 => ?_) (fun c48 => ?_)
    · have hv := hv.1 c48
      refine aw_iconst (v := 0) dX3_prepare_39 (by decide) ?_
      exact hv (Nat.zero_le _) (Nat.zero_le _)
    · have hv := hv.2 c48
      refine aw_aload_n 0 (x := x0) dX3_prepare_21 rfl rfl ?_
      obtain ⟨fs, o49, he, hx, hv⟩ := hv
      refine aw_get (v := va_rf o49) he rfl in_X3 3 (by decide) q328 (Or.inl rfl) hx dX3_prepare_22 ?_
      obtain ⟨q50, hq9, hv⟩ := hv
      subst hq9
      refine aw_eqv (lv2 := [(0, .ref x0)]) (st2 := [.ref q50]) rfl rfl rfl rfl ?_
      obtain ⟨fs, y51, he, hx, hv⟩ := hv
      refine aw_getN (v := .int y51) he rfl in_X4 2 (by decide) q305 (Or.inl rfl) hx dX3_prepare_25 ?_
      refine aw_aload_n 0 (x := x0) dX3_prepare_28 rfl rfl ?_
      obtain ⟨fs, y52, he, hx, hv⟩ := hv
      refine aw_get (v := .int y52) he rfl in_X3 5 (by decide) q334 (Or.inl rfl) hx dX3_prepare_29 ?_
      have J9 : AW l G mX3_prepare d mc ms P 40 [(0, .ref x0)] [.int (if y51 = y52 then (1 : Int32) else 0)] h 0 0 := by
        exact hv (Nat.zero_le _) (Nat.zero_le _)
      refine aw_icmp_ne 39 dX3_prepare_32 (by decide) (fun c53 => ?_) (fun c53 => ?_)
      · have J9 := aw_ifF c53 J9
        refine aw_iconst (v := 0) dX3_prepare_39 (by decide) ?_
        exact J9
      · have J9 := aw_ifT c53 J9
        refine aw_iconst (v := 1) dX3_prepare_35 (by decide) ?_
        refine aw_goto 40 dX3_prepare_36 (by decide) ?_
        exact J9
def T_X3_begin_22 (l : Launch) (G : aG) (d mc ms : Nat) (P : aR → aH → Prop) (x0 : Nat) (x3 : Int32) (h : aH) (c s : Nat) : Prop := c ≤ mc → s ≤ ms → AW l G mX3_begin d mc ms P 22 [(0, .ref x0), (3, .int x3)] [] h c s
def V_X3_begin_22 (l : Launch) (G : aG) (d mc ms : Nat) (P : aR → aH → Prop) (x0 : Nat) (x3 : Int32) (h : aH) (c s : Nat) : Prop :=
  (20 ≤ x3 → 
    vIs h x0 3 (
    vC l G mX3_prepare (wsN mX3_prepare) d mc ms [.ref x0] h c s (xP P) (kV fun h3 c4 s5 => 
    P (.inl none) h3))
    ) ∧ (¬ 20 ≤ x3 → 
    vR h x0 3 0 fun a6 =>
    vSt .int h a6 x3 ((-1) : Int32) fun h7 =>
    T_X3_begin_22 l G d mc ms P x0 (x3 + 1) h7 c s
    )
set_option maxHeartbeats 4000000 in
theorem A_X3_begin_22 {l : Launch} {G : aG} {d mc ms : Nat} {P : aR → aH → Prop} {x0 : Nat} {x3 : Int32} {h : aH} {c s : Nat} (hl : l.stackTraces = false) (hv : V_X3_begin_22 l G d mc ms P x0 x3 h c s) : T_X3_begin_22 l G d mc ms P x0 x3 h c s := by
  intro hc hs
  unfold V_X3_begin_22 at hv
  refine aw_iload_n 1 dX3_begin_22 rfl rfl ?_
  refine aw_bipush (v := 20) dX3_begin_23 (by decide) ?_
  refine aw_icmp_ge 41 dX3_begin_25 (by decide) (fun c1 => ?_) (fun c1 => ?_)
  · have hv := hv.1 c1
    refine aw_aload_n 0 (x := x0) dX3_begin_41 rfl rfl ?_
    obtain ⟨⟨fs, he⟩, hv⟩ := hv
    obtain ⟨d2, mc2, ms2, Q, hM, hd9, hc9, hs9, hv, hx⟩ := hv
    refine aw_callV (rest := []) hM he rfl rfl nX3_prepare q179 q181 qs0 q121 q182 dX3_begin_42 rfl hd9 (by decide) (Nat.le_of_ble_eq_true rfl) hc9 hs9 ?_ ?_
    rotate_left
    · exact fun E h2 q => aX_out (hx E h2 q) rfl hc9 hs9
    intro v9 h3 hq
    have hv := hv v9 h3 hq
    obtain ⟨rfl, hv⟩ := hv
    refine aw_eqv (pc2 := 45) (st2 := []) rfl rfl rfl rfl ?_
    revert hv hc9 hs9; generalize c + mc2 = c4; generalize s + ms2 = s5; intro hc9 hs9 hv
    exact aw_vret rfl dX3_begin_45 hv hc9 hs9
  · have hv := hv.2 c1
    refine aw_aload_n 0 (x := x0) dX3_begin_28 rfl rfl ?_
    obtain ⟨fs, a6, he, hx, hv⟩ := hv
    refine aw_get (v := .ref a6) he rfl in_X3 0 (by decide) q321 (Or.inl rfl) hx dX3_begin_29 ?_
    refine aw_iload_n 1 dX3_begin_32 rfl rfl ?_
    refine aw_iconst (v := (-1)) dX3_begin_33 (by decide) ?_
    obtain ⟨n9, f9, he, hin, hv⟩ := hv
    refine aw_iast he hin rfl dX3_begin_34 ?_
    revert hv; generalize aUp h a6 (aInts .int n9 (upd f9 (x3).toNatClampNeg ((-1) : Int32))) = h7; intro hv
    refine aw_iinc 1 (v := x3 + 1) (lv' := [(3, .int (x3 + 1)), (0, .ref x0)]) dX3_begin_35 rfl rfl (Nat.le_of_ble_eq_true rfl) rfl ?_
    refine aw_goto 22 dX3_begin_38 (by decide) ?_
    refine aw_sub [1, 0] rfl ?_
    exact hv hc hs
def V_X3_begin_0 (l : Launch) (G : aG) (d mc ms : Nat) (P : aR → aH → Prop) (x0 : Nat) (x1 : Int32) (x2 : Int32) (h : aH) : Prop :=
  vPut h x0 3 4 (.int x1) fun h8 =>
  vPut h8 x0 3 5 (.int x2) fun h9 =>
  vPut h9 x0 3 6 (.int 0) fun h10 =>
  vPut h10 x0 3 7 (.int 0) fun h11 =>
  T_X3_begin_22 l G d mc ms P x0 0 h11 0 0
set_option maxHeartbeats 4000000 in
theorem A_X3_begin {l : Launch} {G : aG} {d mc ms : Nat} {P : aR → aH → Prop} {x0 : Nat} {x1 : Int32} {x2 : Int32} {h : aH} (hl : l.stackTraces = false) (hv : V_X3_begin_0 l G d mc ms P x0 x1 x2 h) : aC l G mX3_begin (wsN mX3_begin) d mc ms [.ref x0, .int x1, .int x2] h P := by
  refine aC_ofF (M := mX3_begin) rfl pX3_begin (Nat.le_of_ble_eq_true rfl) hl ?_
  refine aw_eqv (lv2 := [(0, .ref x0), (1, .int x1), (2, .int x2)]) rfl rfl rfl rfl ?_
  unfold V_X3_begin_0 at hv
  refine aw_aload_n 0 (x := x0) dX3_begin_0 rfl rfl ?_
  refine aw_iload_n 1 dX3_begin_1 rfl rfl ?_
  obtain ⟨fs, he, hk9, hv⟩ := hv
  refine aw_put he rfl in_X3 tyX3_ok nmX3 4 (by decide) q330 (Or.inl rfl) rfl rfl rfl hk9 rfl dX3_begin_2 ?_
  revert hv; generalize aUp h x0 (.inr (3, fs.set 4 (.int x1))) = h8; intro hv
  refine aw_aload_n 0 (x := x0) dX3_begin_5 rfl rfl ?_
  refine aw_iload_n 2 dX3_begin_6 rfl rfl ?_
  obtain ⟨fs, he, hk9, hv⟩ := hv
  refine aw_put he rfl in_X3 tyX3_ok nmX3 5 (by decide) q334 (Or.inl rfl) rfl rfl rfl hk9 rfl dX3_begin_7 ?_
  revert hv; generalize aUp h8 x0 (.inr (3, fs.set 5 (.int x2))) = h9; intro hv
  refine aw_aload_n 0 (x := x0) dX3_begin_10 rfl rfl ?_
  refine aw_iconst (v := 0) dX3_begin_11 (by decide) ?_
  obtain ⟨fs, he, hk9, hv⟩ := hv
  refine aw_put he rfl in_X3 tyX3_ok nmX3 6 (by decide) q336 (Or.inl rfl) rfl rfl rfl hk9 rfl dX3_begin_12 ?_
  revert hv; generalize aUp h9 x0 (.inr (3, fs.set 6 (.int 0))) = h10; intro hv
  refine aw_aload_n 0 (x := x0) dX3_begin_15 rfl rfl ?_
  refine aw_iconst (v := 0) dX3_begin_16 (by decide) ?_
  obtain ⟨fs, he, hk9, hv⟩ := hv
  refine aw_put he rfl in_X3 tyX3_ok nmX3 7 (by decide) q338 (Or.inl rfl) rfl rfl rfl hk9 rfl dX3_begin_17 ?_
  revert hv; generalize aUp h10 x0 (.inr (3, fs.set 7 (.int 0))) = h11; intro hv
  refine aw_iconst (v := 0) dX3_begin_20 (by decide) ?_
  refine aw_istore_n (lv' := [(3, .int 0), (0, .ref x0), (1, .int x1), (2, .int x2)]) dX3_begin_21 rfl (Nat.le_of_ble_eq_true rfl) rfl ?_
  refine aw_sub [1, 0] rfl ?_
  exact hv (Nat.zero_le _) (Nat.zero_le _)
def V_X3_init_0 (l : Launch) (G : aG) (d mc ms : Nat) (P : aR → aH → Prop) (x0 : Nat) (h : aH) : Prop :=
  1 ≤ d ∧
  vNewA .int h (20 : Int32) mc ms 0 0 fun a1 h2 c3 s4 => h a1 = none →
  vPut h2 x0 3 0 (.ref a1) fun h6 =>
  vMul h6 (12 : Int32) (5 : Int32) mc ms c3 s4 fun a7 h8 c9 s10 => (∀ j, a7 ≤ j → h6 j = none) →
  vPut h8 x0 3 1 (.ref a7) fun h12 =>
  vNewA .int h12 (25 : Int32) mc ms c9 s10 fun a13 h14 c15 s16 => h12 a13 = none →
  vPut h14 x0 3 2 (.ref a13) fun h18 =>
  vIs h18 x0 3 (
  vC l G mX3_begin (wsN mX3_begin) d mc ms [.ref x0, .int 4, .int 3] h18 c15 s16 (xP P) (kV fun h20 c21 s22 => 
  P (.inl none) h20))
set_option maxHeartbeats 4000000 in
theorem A_X3_init {l : Launch} {G : aG} {d mc ms : Nat} {P : aR → aH → Prop} {x0 : Nat} {h : aH} (hl : l.stackTraces = false) (hv : V_X3_init_0 l G d mc ms P x0 h) : aC l G mX3_init (wsN mX3_init) d mc ms [.ref x0] h P := by
  refine aC_ofF (M := mX3_init) rfl pX3_init (Nat.le_of_ble_eq_true rfl) hl ?_
  refine aw_eqv (lv2 := [(0, .ref x0)]) rfl rfl rfl rfl ?_
  unfold V_X3_init_0 at hv
  refine aw_aload_n 0 (x := x0) dX3_init_0 rfl rfl ?_
  obtain ⟨hd9, hv⟩ := hv
  refine aw_objInit q172 q159 q160 hd9 (Nat.le_of_ble_eq_true rfl) dX3_init_1 ?_
  refine aw_aload_n 0 (x := x0) dX3_init_4 rfl rfl ?_
  refine aw_bipush (v := 20) dX3_init_5 (by decide) ?_
  obtain ⟨N9, hn9, hN9, hb9, hc9, hs9, hv⟩ := hv
  refine aw_newa (atype := .int) (ty := .int) (a0 := (N9, .inl fun _ => 0)) rfl 0 rfl q215 (fun _ => rfl) hn9 hN9 (by show _ * 4 ≤ _; omega) (fun _ _ h9 => h9) hc9 hs9 dX3_init_7 (fun a1 g5 => ?_)
  have hv := hv a1 g5 g5
  refine aw_eqv (pc2 := 9) (st2 := [.ref a1, .ref x0]) rfl rfl rfl rfl ?_
  revert hv hc9 hs9; generalize aUp h a1 (.inl (.int, (N9, .inl fun _ => 0))) = h2; generalize 0 + 1 = c3; generalize 0 + N9 = s4; intro hc9 hs9 hv
  obtain ⟨fs, he, hk9, hv⟩ := hv
  refine aw_putF he rfl in_X3 tyX3_ok nmX3 0 (by decide) q321 (Or.inl rfl) rfl rfl rfl rfl rfl hk9 rfl dX3_init_9 ?_
  revert hv; generalize aUp h2 x0 (.inr (3, fs.set 0 (.ref a1))) = h6; intro hv
  refine aw_aload_n 0 (x := x0) dX3_init_12 rfl rfl ?_
  refine aw_bipush (v := 12) dX3_init_13 (by decide) ?_
  refine aw_iconst (v := 5) dX3_init_15 (by decide) ?_
  obtain ⟨N9, M9, hn9, hk9, hN9, hM9, hb9, hb8, hc9, hs9, hv⟩ := hv
  refine aw_multi q173 q174 q215 hn9 hk9 hN9 hM9 hb9 hb8 hc9 hs9 dX3_init_16 (fun a7 g11 => ?_)
  have hv := hv a7 g11 g11
  rw [← Nat.add_assoc] at hc9
  rw [← Nat.add_assoc] at hs9
  refine aw_eqv (pc2 := 20) (st2 := [.ref a7, .ref x0]) rfl rfl rfl rfl ?_
  revert hv hc9 hs9; generalize aGrid h6 a7 N9 M9 = h8; generalize c3 + 1 + N9 = c9; generalize s4 + N9 + N9 * M9 = s10; intro hc9 hs9 hv
  obtain ⟨fs, he, hk9, hv⟩ := hv
  refine aw_putF he rfl in_X3 tyX3_ok nmX3 1 (by decide) q323 (Or.inl rfl) rfl rfl rfl rfl rfl hk9 rfl dX3_init_20 ?_
  revert hv; generalize aUp h8 x0 (.inr (3, fs.set 1 (.ref a7))) = h12; intro hv
  refine aw_aload_n 0 (x := x0) dX3_init_23 rfl rfl ?_
  refine aw_bipush (v := 25) dX3_init_24 (by decide) ?_
  obtain ⟨N9, hn9, hN9, hb9, hc9, hs9, hv⟩ := hv
  refine aw_newa (atype := .int) (ty := .int) (a0 := (N9, .inl fun _ => 0)) rfl 0 rfl q215 (fun _ => rfl) hn9 hN9 (by show _ * 4 ≤ _; omega) (fun _ _ h9 => h9) hc9 hs9 dX3_init_26 (fun a13 g17 => ?_)
  have hv := hv a13 g17 g17
  refine aw_eqv (pc2 := 28) (st2 := [.ref a13, .ref x0]) rfl rfl rfl rfl ?_
  revert hv hc9 hs9; generalize aUp h12 a13 (.inl (.int, (N9, .inl fun _ => 0))) = h14; generalize c9 + 1 = c15; generalize s10 + N9 = s16; intro hc9 hs9 hv
  obtain ⟨fs, he, hk9, hv⟩ := hv
  refine aw_putF he rfl in_X3 tyX3_ok nmX3 2 (by decide) q326 (Or.inl rfl) rfl rfl rfl rfl rfl hk9 rfl dX3_init_28 ?_
  revert hv; generalize aUp h14 x0 (.inr (3, fs.set 2 (.ref a13))) = h18; intro hv
  refine aw_aload_n 0 (x := x0) dX3_init_31 rfl rfl ?_
  refine aw_iconst (v := 4) dX3_init_32 (by decide) ?_
  refine aw_iconst (v := 3) dX3_init_33 (by decide) ?_
  obtain ⟨⟨fs, he⟩, hv⟩ := hv
  obtain ⟨d2, mc2, ms2, Q, hM, hd9, hc9, hs9, hv, hx⟩ := hv
  refine aw_callV (rest := []) hM he rfl rfl nX3_begin q175 q176 q177 q121 q178 dX3_init_34 rfl hd9 (by decide) (Nat.le_of_ble_eq_true rfl) hc9 hs9 ?_ ?_
  rotate_left
  · exact fun E h2 q => aX_out (hx E h2 q) rfl hc9 hs9
  intro v9 h20 hq
  have hv := hv v9 h20 hq
  obtain ⟨rfl, hv⟩ := hv
  refine aw_eqv (pc2 := 37) (st2 := []) rfl rfl rfl rfl ?_
  revert hv hc9 hs9; generalize c15 + mc2 = c21; generalize s16 + ms2 = s22; intro hc9 hs9 hv
  exact aw_vret rfl dX3_init_37 hv hc9 hs9
def V_X3_cellCount_0 (l : Launch) (G : aG) (d mc ms : Nat) (P : aR → aH → Prop) (x0 : Nat) (h : aH) : Prop :=
  vI h x0 3 4 fun y1 =>
  vI h x0 3 4 fun y2 =>
  P (.inl (some (.int (y1 * y2)))) h
set_option maxHeartbeats 4000000 in
theorem A_X3_cellCount {l : Launch} {G : aG} {d mc ms : Nat} {P : aR → aH → Prop} {x0 : Nat} {h : aH} (hl : l.stackTraces = false) (hv : V_X3_cellCount_0 l G d mc ms P x0 h) : aC l G mX3_cellCount (wsN mX3_cellCount) d mc ms [.ref x0] h P := by
  refine aC_ofF (M := mX3_cellCount) rfl pX3_cellCount (Nat.le_of_ble_eq_true rfl) hl ?_
  refine aw_eqv (lv2 := [(0, .ref x0)]) rfl rfl rfl rfl ?_
  unfold V_X3_cellCount_0 at hv
  refine aw_aload_n 0 (x := x0) dX3_cellCount_0 rfl rfl ?_
  obtain ⟨fs, y1, he, hx, hv⟩ := hv
  refine aw_get (v := .int y1) he rfl in_X3 4 (by decide) q330 (Or.inl rfl) hx dX3_cellCount_1 ?_
  refine aw_aload_n 0 (x := x0) dX3_cellCount_4 rfl rfl ?_
  obtain ⟨fs, y2, he, hx, hv⟩ := hv
  refine aw_get (v := .int y2) he rfl in_X3 4 (by decide) q330 (Or.inl rfl) hx dX3_cellCount_5 ?_
  refine aw_imul dX3_cellCount_8 ?_
  exact aw_iret rfl dX3_cellCount_9 hv (Nat.zero_le _) (Nat.zero_le _)
def V_X3_setAll_0 (l : Launch) (G : aG) (d mc ms : Nat) (P : aR → aH → Prop) (x0 : Nat) (x1 : Nat) (h : aH) : Prop :=
  vR h x1 3 0 fun a1 =>
  vR h x0 3 0 fun a2 =>
  1 ≤ d ∧ vCpyI .int h a1 (0 : Int32) a2 (0 : Int32) (20 : Int32) fun h3 =>
  vI h3 x1 3 4 fun y4 =>
  vPut h3 x0 3 4 (.int y4) fun h5 =>
  vI h5 x1 3 5 fun y6 =>
  vPut h5 x0 3 5 (.int y6) fun h7 =>
  vI h7 x1 3 6 fun y8 =>
  vPut h7 x0 3 6 (.int y8) fun h9 =>
  vI h9 x1 3 7 fun y10 =>
  vB y10 ∧
  vPut h9 x0 3 7 (.int y10) fun h12 =>
  vO h12 x1 3 3 fun o13 =>
  vPut h12 x0 3 3 (va_rf o13) fun h14 =>
  vIs h14 x0 3 (
  vC l G mX3_prepare (wsN mX3_prepare) d mc ms [.ref x0] h14 0 0 (xP P) (kV fun h16 c17 s18 => 
  P (.inl none) h16))
set_option maxHeartbeats 4000000 in
theorem A_X3_setAll {l : Launch} {G : aG} {d mc ms : Nat} {P : aR → aH → Prop} {x0 : Nat} {x1 : Nat} {h : aH} (hl : l.stackTraces = false) (hv : V_X3_setAll_0 l G d mc ms P x0 x1 h) : aC l G mX3_setAll (wsN mX3_setAll) d mc ms [.ref x0, .ref x1] h P := by
  refine aC_ofF (M := mX3_setAll) rfl pX3_setAll (Nat.le_of_ble_eq_true rfl) hl ?_
  refine aw_eqv (lv2 := [(0, .ref x0), (1, .ref x1)]) rfl rfl rfl rfl ?_
  unfold V_X3_setAll_0 at hv
  refine aw_aload_n 1 (x := x1) dX3_setAll_0 rfl rfl ?_
  obtain ⟨fs, a1, he, hx, hv⟩ := hv
  refine aw_get (v := .ref a1) he rfl in_X3 0 (by decide) q321 (Or.inl rfl) hx dX3_setAll_1 ?_
  refine aw_iconst (v := 0) dX3_setAll_4 (by decide) ?_
  refine aw_aload_n 0 (x := x0) dX3_setAll_5 rfl rfl ?_
  obtain ⟨fs, a2, he, hx, hv⟩ := hv
  refine aw_get (v := .ref a2) he rfl in_X3 0 (by decide) q321 (Or.inl rfl) hx dX3_setAll_6 ?_
  refine aw_iconst (v := 0) dX3_setAll_9 (by decide) ?_
  refine aw_bipush (v := 20) dX3_setAll_10 (by decide) ?_
  obtain ⟨hd9, n0, n1, f9, g9, he0, he1, w1, w2, w3, w4, w5, hfit, hv⟩ := hv
  refine aw_copyI 0 rfl rfl q511 q222 q221 q126 he0 he1 w1 w2 w3 w4 w5 hfit hd9 (Nat.le_of_ble_eq_true rfl) rfl dX3_setAll_12 ?_
  revert hv; generalize aUp h a2 (aInts .int n1 (va_cpy f9 g9 ((0 : Int32)).toNatClampNeg ((0 : Int32)).toNatClampNeg ((20 : Int32)).toNatClampNeg)) = h3; intro hv
  refine aw_aload_n 0 (x := x0) dX3_setAll_15 rfl rfl ?_
  refine aw_aload_n 1 (x := x1) dX3_setAll_16 rfl rfl ?_
  obtain ⟨fs, y4, he, hx, hv⟩ := hv
  refine aw_get (v := .int y4) he rfl in_X3 4 (by decide) q330 (Or.inl rfl) hx dX3_setAll_17 ?_
  obtain ⟨fs, he, hk9, hv⟩ := hv
  refine aw_put he rfl in_X3 tyX3_ok nmX3 4 (by decide) q330 (Or.inl rfl) rfl rfl rfl hk9 rfl dX3_setAll_20 ?_
  revert hv; generalize aUp h3 x0 (.inr (3, fs.set 4 (.int y4))) = h5; intro hv
  refine aw_aload_n 0 (x := x0) dX3_setAll_23 rfl rfl ?_
  refine aw_aload_n 1 (x := x1) dX3_setAll_24 rfl rfl ?_
  obtain ⟨fs, y6, he, hx, hv⟩ := hv
  refine aw_get (v := .int y6) he rfl in_X3 5 (by decide) q334 (Or.inl rfl) hx dX3_setAll_25 ?_
  obtain ⟨fs, he, hk9, hv⟩ := hv
  refine aw_put he rfl in_X3 tyX3_ok nmX3 5 (by decide) q334 (Or.inl rfl) rfl rfl rfl hk9 rfl dX3_setAll_28 ?_
  revert hv; generalize aUp h5 x0 (.inr (3, fs.set 5 (.int y6))) = h7; intro hv
  refine aw_aload_n 0 (x := x0) dX3_setAll_31 rfl rfl ?_
  refine aw_aload_n 1 (x := x1) dX3_setAll_32 rfl rfl ?_
  obtain ⟨fs, y8, he, hx, hv⟩ := hv
  refine aw_get (v := .int y8) he rfl in_X3 6 (by decide) q336 (Or.inl rfl) hx dX3_setAll_33 ?_
  obtain ⟨fs, he, hk9, hv⟩ := hv
  refine aw_put he rfl in_X3 tyX3_ok nmX3 6 (by decide) q336 (Or.inl rfl) rfl rfl rfl hk9 rfl dX3_setAll_36 ?_
  revert hv; generalize aUp h7 x0 (.inr (3, fs.set 6 (.int y8))) = h9; intro hv
  refine aw_aload_n 0 (x := x0) dX3_setAll_39 rfl rfl ?_
  refine aw_aload_n 1 (x := x1) dX3_setAll_40 rfl rfl ?_
  obtain ⟨fs, y10, he, hx, hv⟩ := hv
  refine aw_get (v := .int y10) he rfl in_X3 7 (by decide) q338 (Or.inl rfl) hx dX3_setAll_41 ?_
  obtain ⟨z11, hv⟩ := hv
  obtain ⟨fs, he, hk9, hv⟩ := hv
  refine aw_put he rfl in_X3 tyX3_ok nmX3 7 (by decide) q338 (Or.inl rfl) rfl z11.nar z11.fit hk9 rfl dX3_setAll_44 ?_
  revert hv; generalize aUp h9 x0 (.inr (3, fs.set 7 (.int y10))) = h12; intro hv
  refine aw_aload_n 0 (x := x0) dX3_setAll_47 rfl rfl ?_
  refine aw_aload_n 1 (x := x1) dX3_setAll_48 rfl rfl ?_
  obtain ⟨fs, o13, he, hx, hv⟩ := hv
  refine aw_get (v := va_rf o13) he rfl in_X3 3 (by decide) q328 (Or.inl rfl) hx dX3_setAll_49 ?_
  obtain ⟨fs, he, hk9, hv⟩ := hv
  refine aw_put he rfl in_X3 tyX3_ok nmX3 3 (by decide) q328 (Or.inl rfl) rfl (by cases o13 <;> rfl) (by cases o13 <;> rfl) hk9 rfl dX3_setAll_52 ?_
  revert hv; generalize aUp h12 x0 (.inr (3, fs.set 3 (va_rf o13))) = h14; intro hv
  refine aw_aload_n 0 (x := x0) dX3_setAll_55 rfl rfl ?_
  obtain ⟨⟨fs, he⟩, hv⟩ := hv
  obtain ⟨d2, mc2, ms2, Q, hM, hd9, hc9, hs9, hv, hx⟩ := hv
  refine aw_callV (rest := []) hM he rfl rfl nX3_prepare q179 q181 qs0 q121 q182 dX3_setAll_56 rfl hd9 (by decide) (Nat.le_of_ble_eq_true rfl) hc9 hs9 ?_ ?_
  rotate_left
  · exact fun E h2 q => aX_out (hx E h2 q) rfl hc9 hs9
  intro v9 h16 hq
  have hv := hv v9 h16 hq
  obtain ⟨rfl, hv⟩ := hv
  refine aw_eqv (pc2 := 59) (st2 := []) rfl rfl rfl rfl ?_
  revert hv hc9 hs9; generalize 0 + mc2 = c17; generalize 0 + ms2 = s18; intro hc9 hs9 hv
  exact aw_vret rfl dX3_setAll_59 hv hc9 hs9
def V_X3_turnDiagonals_0 (l : Launch) (G : aG) (d mc ms : Nat) (P : aR → aH → Prop) (x0 : Nat) (h : aH) : Prop :=
  vI h x0 3 7 fun y1 =>
  vB (if y1 = 0 then (1 : Int32) else 0) ∧
  vPut h x0 3 7 (.int (if y1 = 0 then (1 : Int32) else 0)) fun h4 =>
  vIs h4 x0 3 (
  vC l G mX3_prepare (wsN mX3_prepare) d mc ms [.ref x0] h4 0 0 (xP P) (kV fun h6 c7 s8 => 
  P (.inl none) h6))
set_option maxHeartbeats 4000000 in
theorem A_X3_turnDiagonals {l : Launch} {G : aG} {d mc ms : Nat} {P : aR → aH → Prop} {x0 : Nat} {h : aH} (hl : l.stackTraces = false) (hv : V_X3_turnDiagonals_0 l G d mc ms P x0 h) : aC l G mX3_turnDiagonals (wsN mX3_turnDiagonals) d mc ms [.ref x0] h P := by
  refine aC_ofF (M := mX3_turnDiagonals) rfl pX3_turnDiagonals (Nat.le_of_ble_eq_true rfl) hl ?_
  refine aw_eqv (lv2 := [(0, .ref x0)]) rfl rfl rfl rfl ?_
  unfold V_X3_turnDiagonals_0 at hv
  refine aw_aload_n 0 (x := x0) dX3_turnDiagonals_0 rfl rfl ?_
  refine aw_aload_n 0 (x := x0) dX3_turnDiagonals_1 rfl rfl ?_
  obtain ⟨fs, y1, he, hx, hv⟩ := hv
  refine aw_get (v := .int y1) he rfl in_X3 7 (by decide) q338 (Or.inl rfl) hx dX3_turnDiagonals_2 ?_
  have J9 : AW l G mX3_turnDiagonals d mc ms P 13 [(0, .ref x0)] [.int (if y1 = 0 then (1 : Int32) else 0), .ref x0] h 0 0 := by
    obtain ⟨z3, hv⟩ := hv
    obtain ⟨fs, he, hk9, hv⟩ := hv
    refine aw_put he rfl in_X3 tyX3_ok nmX3 7 (by decide) q338 (Or.inl rfl) rfl z3.nar z3.fit hk9 rfl dX3_turnDiagonals_13 ?_
    revert hv; generalize aUp h x0 (.inr (3, fs.set 7 (.int (if y1 = 0 then (1 : Int32) else 0)))) = h4; intro hv
    refine aw_aload_n 0 (x := x0) dX3_turnDiagonals_16 rfl rfl ?_
    obtain ⟨⟨fs, he⟩, hv⟩ := hv
    obtain ⟨d2, mc2, ms2, Q, hM, hd9, hc9, hs9, hv, hx⟩ := hv
    refine aw_callV (rest := []) hM he rfl rfl nX3_prepare q179 q181 qs0 q121 q182 dX3_turnDiagonals_17 rfl hd9 (by decide) (Nat.le_of_ble_eq_true rfl) hc9 hs9 ?_ ?_
    rotate_left
    · exact fun E h2 q => aX_out (hx E h2 q) rfl hc9 hs9
    intro v9 h6 hq
    have hv := hv v9 h6 hq
    obtain ⟨rfl, hv⟩ := hv
    refine aw_eqv (pc2 := 20) (st2 := []) rfl rfl rfl rfl ?_
    revert hv hc9 hs9; generalize 0 + mc2 = c7; generalize 0 + ms2 = s8; intro hc9 hs9 hv
    exact aw_vret rfl dX3_turnDiagonals_20 hv hc9 hs9
  refine aw_if_ne 12 dX3_turnDiagonals_5 (by decide) (fun c2 => ?_) (fun c2 => ?_)
  · have J9 := aw_ifF c2 J9
    refine aw_iconst (v := 0) dX3_turnDiagonals_12 (by decide) ?_
    exact J9
  · have J9 := aw_ifT c2 J9
    refine aw_iconst (v := 1) dX3_turnDiagonals_8 (by decide) ?_
    refine aw_goto 13 dX3_turnDiagonals_9 (by decide) ?_
    exact J9
def V_X3_edgeCount_0 (l : Launch) (G : aG) (d mc ms : Nat) (P : aR → aH → Prop) (x0 : Nat) (h : aH) : Prop :=
  vI h x0 3 4 fun y1 =>
  P (.inl (some (.int ((4 : Int32) * y1)))) h
set_option maxHeartbeats 4000000 in
theorem A_X3_edgeCount {l : Launch} {G : aG} {d mc ms : Nat} {P : aR → aH → Prop} {x0 : Nat} {h : aH} (hl : l.stackTraces = false) (hv : V_X3_edgeCount_0 l G d mc ms P x0 h) : aC l G mX3_edgeCount (wsN mX3_edgeCount) d mc ms [.ref x0] h P := by
  refine aC_ofF (M := mX3_edgeCount) rfl pX3_edgeCount (Nat.le_of_ble_eq_true rfl) hl ?_
  refine aw_eqv (lv2 := [(0, .ref x0)]) rfl rfl rfl rfl ?_
  unfold V_X3_edgeCount_0 at hv
  refine aw_iconst (v := 4) dX3_edgeCount_0 (by decide) ?_
  refine aw_aload_n 0 (x := x0) dX3_edgeCount_1 rfl rfl ?_
  obtain ⟨fs, y1, he, hx, hv⟩ := hv
  refine aw_get (v := .int y1) he rfl in_X3 4 (by decide) q330 (Or.inl rfl) hx dX3_edgeCount_2 ?_
  refine aw_imul dX3_edgeCount_5 ?_
  exact aw_iret rfl dX3_edgeCount_6 hv (Nat.zero_le _) (Nat.zero_le _)
def V_X3_lineAt_0 (l : Launch) (G : aG) (d mc ms : Nat) (P : aR → aH → Prop) (x0 : Nat) (x1 : Int32) (h : aH) : Prop :=
  vI h x0 3 4 fun y1 =>
  ¬ y1 = 0 ∧
  (¬ ((x1 / y1) - (x1 / y1) / 2 * 2) = 0 → 
    vI h x0 3 4 fun y4 =>
    ¬ y4 = 0 ∧
    P (.inl (some (.int (x1 - x1 / y4 * y4)))) h
    ) ∧ (((x1 / y1) - (x1 / y1) / 2 * 2) = 0 → 
    vI h x0 3 4 fun y6 =>
    vI h x0 3 4 fun y7 =>
    ¬ y7 = 0 ∧
    P (.inl (some (.int (y6 + (x1 - x1 / y7 * y7))))) h
    )
set_option maxHeartbeats 4000000 in
theorem A_X3_lineAt {l : Launch} {G : aG} {d mc ms : Nat} {P : aR → aH → Prop} {x0 : Nat} {x1 : Int32} {h : aH} (hl : l.stackTraces = false) (hv : V_X3_lineAt_0 l G d mc ms P x0 x1 h) : aC l G mX3_lineAt (wsN mX3_lineAt) d mc ms [.ref x0, .int x1] h P := by
  refine aC_ofF (M := mX3_lineAt) rfl pX3_lineAt (Nat.le_of_ble_eq_true rfl) hl ?_
  refine aw_eqv (lv2 := [(0, .ref x0), (1, .int x1)]) rfl rfl rfl rfl ?_
  unfold V_X3_lineAt_0 at hv
  refine aw_iload_n 1 dX3_lineAt_0 rfl rfl ?_
  refine aw_aload_n 0 (x := x0) dX3_lineAt_1 rfl rfl ?_
  obtain ⟨fs, y1, he, hx, hv⟩ := hv
  refine aw_get (v := .int y1) he rfl in_X3 4 (by decide) q330 (Or.inl rfl) hx dX3_lineAt_2 ?_
  obtain ⟨z2, hv⟩ := hv
  refine aw_idiv dX3_lineAt_5 z2 ?_
  refine aw_istore_n (lv' := [(2, .int (x1 / y1)), (0, .ref x0), (1, .int x1)]) dX3_lineAt_6 rfl (Nat.le_of_ble_eq_true rfl) rfl ?_
  refine aw_iload_n 0 dX3_lineAt_7 rfl rfl ?_
  refine aw_iconst (v := 2) dX3_lineAt_8 (by decide) ?_
  refine aw_irem dX3_lineAt_9 (by decide) ?_
  refine aw_if_ne 27 dX3_lineAt_10 (by decide) (fun c3 => ?_) (fun c3 => ?_)
  · have hv := hv.1 c3
    refine aw_iload_n 2 dX3_lineAt_27 rfl rfl ?_
    refine aw_aload_n 1 (x := x0) dX3_lineAt_28 rfl rfl ?_
    obtain ⟨fs, y4, he, hx, hv⟩ := hv
    refine aw_get (v := .int y4) he rfl in_X3 4 (by decide) q330 (Or.inl rfl) hx dX3_lineAt_29 ?_
    obtain ⟨z5, hv⟩ := hv
    refine aw_irem dX3_lineAt_32 z5 ?_
    exact aw_iret rfl dX3_lineAt_33 hv (Nat.zero_le _) (Nat.zero_le _)
  · have hv := hv.2 c3
    refine aw_aload_n 1 (x := x0) dX3_lineAt_13 rfl rfl ?_
    obtain ⟨fs, y6, he, hx, hv⟩ := hv
    refine aw_get (v := .int y6) he rfl in_X3 4 (by decide) q330 (Or.inl rfl) hx dX3_lineAt_14 ?_
    refine aw_iload_n 2 dX3_lineAt_17 rfl rfl ?_
    refine aw_aload_n 1 (x := x0) dX3_lineAt_18 rfl rfl ?_
    obtain ⟨fs, y7, he, hx, hv⟩ := hv
    refine aw_get (v := .int y7) he rfl in_X3 4 (by decide) q330 (Or.inl rfl) hx dX3_lineAt_19 ?_
    obtain ⟨z8, hv⟩ := hv
    refine aw_irem dX3_lineAt_22 z8 ?_
    refine aw_iadd dX3_lineAt_23 ?_
    refine aw_goto 33 dX3_lineAt_24 (by decide) ?_
    exact aw_iret rfl dX3_lineAt_33 hv (Nat.zero_le _) (Nat.zero_le _)
def V_X3_looksBack_0 (l : Launch) (G : aG) (d mc ms : Nat) (P : aR → aH → Prop) (x0 : Nat) (x1 : Int32) (h : aH) : Prop :=
  vI h x0 3 4 fun y1 =>
  ¬ y1 = 0 ∧
  ((x1 / y1) = 1 → 
    P (.inl (some (.int 1))) h
    ) ∧ (¬ (x1 / y1) = 1 → 
    vI h x0 3 4 fun y4 =>
    ¬ y4 = 0 ∧
    vB (if (x1 / y4) = 2 then (1 : Int32) else 0) ∧ P (.inl (some (.int (if (x1 / y4) = 2 then (1 : Int32) else 0)))) h
    )
set_option maxHeartbeats 4000000 in
theorem A_X3_looksBack {l : Launch} {G : aG} {d mc ms : Nat} {P : aR → aH → Prop} {x0 : Nat} {x1 : Int32} {h : aH} (hl : l.stackTraces = false) (hv : V_X3_looksBack_0 l G d mc ms P x0 x1 h) : aC l G mX3_looksBack (wsN mX3_looksBack) d mc ms [.ref x0, .int x1] h P := by
  refine aC_ofF (M := mX3_looksBack) rfl pX3_looksBack (Nat.le_of_ble_eq_true rfl) hl ?_
  refine aw_eqv (lv2 := [(0, .ref x0), (1, .int x1)]) rfl rfl rfl rfl ?_
  unfold V_X3_looksBack_0 at hv
  refine aw_iload_n 1 dX3_looksBack_0 rfl rfl ?_
  refine aw_aload_n 0 (x := x0) dX3_looksBack_1 rfl rfl ?_
  obtain ⟨fs, y1, he, hx, hv⟩ := hv
  refine aw_get (v := .int y1) he rfl in_X3 4 (by decide) q330 (Or.inl rfl) hx dX3_looksBack_2 ?_
  obtain ⟨z2, hv⟩ := hv
  refine aw_idiv dX3_looksBack_5 z2 ?_
  refine aw_iconst (v := 1) dX3_looksBack_6 (by decide) ?_
  refine aw_icmp_eq 20 dX3_looksBack_7 (by decide) (fun c3 => ?_) (fun c3 => ?_)
  · have hv := hv.1 c3
    refine aw_iconst (v := 1) dX3_looksBack_20 (by decide) ?_
    refine aw_goto 25 dX3_looksBack_21 (by decide) ?_
    exact aw_zret rfl rfl dX3_looksBack_25 hv (Nat.zero_le _) (Nat.zero_le _)
  · have hv := hv.2 c3
    refine aw_iload_n 1 dX3_looksBack_10 rfl rfl ?_
    refine aw_aload_n 0 (x := x0) dX3_looksBack_11 rfl rfl ?_
    obtain ⟨fs, y4, he, hx, hv⟩ := hv
    refine aw_get (v := .int y4) he rfl in_X3 4 (by decide) q330 (Or.inl rfl) hx dX3_looksBack_12 ?_
    obtain ⟨z5, hv⟩ := hv
    refine aw_idiv dX3_looksBack_15 z5 ?_
    refine aw_iconst (v := 2) dX3_looksBack_16 (by decide) ?_
    have J9 : AW l G mX3_looksBack d mc ms P 25 [(0, .ref x0), (1, .int x1)] [.int (if (x1 / y4) = 2 then (1 : Int32) else 0)] h 0 0 := by
      obtain ⟨z7, hv⟩ := hv
      exact aw_zret rfl z7.nar dX3_looksBack_25 hv (Nat.zero_le _) (Nat.zero_le _)
    refine aw_icmp_ne 24 dX3_looksBack_17 (by decide) (fun c6 => ?_) (fun c6 => ?_)
    · have J9 := aw_ifF c6 J9
      refine aw_iconst (v := 0) dX3_looksBack_24 (by decide) ?_
      exact J9
    · have J9 := aw_ifT c6 J9
      refine aw_iconst (v := 1) dX3_looksBack_20 (by decide) ?_
      refine aw_goto 25 dX3_looksBack_21 (by decide) ?_
      exact J9
def V_X3_tell_0 (l : Launch) (G : aG) (d mc ms : Nat) (P : aR → aH → Prop) (x0 : Nat) (x1 : Int32) (x2 : Int32) (x3 : Int32) (h : aH) : Prop :=
  vR h x0 3 0 fun a1 =>
  vA .int h a1 x1 fun y2 =>
  vR h x0 3 0 fun a3 =>
  vSt .int h a3 x1 x2 fun h4 =>
  vI h4 x0 3 6 fun y5 =>
  vPut h4 x0 3 6 (.int ((y5 &&& (((1 : Int32) <<< (x1 &&& 31)) ^^^ ((-1) : Int32))) ||| (if x3 = 0 then (0 : Int32) else (1 : Int32) <<< (x1 &&& 31)))) fun h7 =>
  P (.inl (some (.int y2))) h7
set_option maxHeartbeats 4000000 in
theorem A_X3_tell {l : Launch} {G : aG} {d mc ms : Nat} {P : aR → aH → Prop} {x0 : Nat} {x1 : Int32} {x2 : Int32} {x3 : Int32} {h : aH} (hl : l.stackTraces = false) (hv : V_X3_tell_0 l G d mc ms P x0 x1 x2 x3 h) : aC l G mX3_tell (wsN mX3_tell) d mc ms [.ref x0, .int x1, .int x2, .int x3] h P := by
  refine aC_ofF (M := mX3_tell) rfl pX3_tell (Nat.le_of_ble_eq_true rfl) hl ?_
  refine aw_eqv (lv2 := [(0, .ref x0), (1, .int x1), (2, .int x2), (3, .int x3)]) rfl rfl rfl rfl ?_
  unfold V_X3_tell_0 at hv
  refine aw_aload_n 0 (x := x0) dX3_tell_0 rfl rfl ?_
  obtain ⟨fs, a1, he, hx, hv⟩ := hv
  refine aw_get (v := .ref a1) he rfl in_X3 0 (by decide) q321 (Or.inl rfl) hx dX3_tell_1 ?_
  refine aw_iload_n 1 dX3_tell_4 rfl rfl ?_
  obtain ⟨n9, f9, he, hin, hv⟩ := hv
  refine aw_iald he hin dX3_tell_5 ?_
  revert hv; generalize f9 (x1).toNatClampNeg = y2; intro hv
  refine aw_istore (lv' := [(4, .int y2), (0, .ref x0), (1, .int x1), (2, .int x2), (3, .int x3)]) dX3_tell_6 (Nat.le_of_ble_eq_true rfl) rfl ?_
  refine aw_aload_n 1 (x := x0) dX3_tell_8 rfl rfl ?_
  obtain ⟨fs, a3, he, hx, hv⟩ := hv
  refine aw_get (v := .ref a3) he rfl in_X3 0 (by decide) q321 (Or.inl rfl) hx dX3_tell_9 ?_
  refine aw_iload_n 2 dX3_tell_12 rfl rfl ?_
  refine aw_iload_n 3 dX3_tell_13 rfl rfl ?_
  obtain ⟨n9, f9, he, hin, hv⟩ := hv
  refine aw_iast he hin rfl dX3_tell_14 ?_
  revert hv; generalize aUp h a3 (aInts .int n9 (upd f9 (x1).toNatClampNeg x2)) = h4; intro hv
  refine aw_aload_n 1 (x := x0) dX3_tell_15 rfl rfl ?_
  refine aw_aload_n 1 (x := x0) dX3_tell_16 rfl rfl ?_
  obtain ⟨fs, y5, he, hx, hv⟩ := hv
  refine aw_get (v := .int y5) he rfl in_X3 6 (by decide) q336 (Or.inl rfl) hx dX3_tell_17 ?_
  refine aw_iconst (v := 1) dX3_tell_20 (by decide) ?_
  refine aw_iload_n 2 dX3_tell_21 rfl rfl ?_
  refine aw_ishl dX3_tell_22 ?_
  refine aw_iconst (v := (-1)) dX3_tell_23 (by decide) ?_
  refine aw_ixor dX3_tell_24 ?_
  refine aw_iand dX3_tell_25 ?_
  refine aw_iload_n 4 dX3_tell_26 rfl rfl ?_
  have J9 : AW l G mX3_tell d mc ms P 37 [(4, .int y2), (0, .ref x0), (1, .int x1), (2, .int x2), (3, .int x3)] [.int (if x3 = 0 then (0 : Int32) else (1 : Int32) <<< (x1 &&& 31)), .int (y5 &&& (((1 : Int32) <<< (x1 &&& 31)) ^^^ ((-1) : Int32))), .ref x0] h4 0 0 := by
    refine aw_ior dX3_tell_37 ?_
    obtain ⟨fs, he, hk9, hv⟩ := hv
    refine aw_put he rfl in_X3 tyX3_ok nmX3 6 (by decide) q336 (Or.inl rfl) rfl rfl rfl hk9 rfl dX3_tell_38 ?_
    revert hv; generalize aUp h4 x0 (.inr (3, fs.set 6 (.int ((y5 &&& (((1 : Int32) <<< (x1 &&& 31)) ^^^ ((-1) : Int32))) ||| (if x3 = 0 then (0 : Int32) else (1 : Int32) <<< (x1 &&& 31)))))) = h7; intro hv
    refine aw_iload 0 dX3_tell_41 rfl ?_
    exact aw_iret rfl dX3_tell_43 hv (Nat.zero_le _) (Nat.zero_le _)
  refine aw_if_eq 36 dX3_tell_27 (by decide) (fun c6 => ?_) (fun c6 => ?_)
  · have J9 := aw_ifT c6 J9
    refine aw_iconst (v := 0) dX3_tell_36 (by decide) ?_
    exact J9
  · have J9 := aw_ifF c6 J9
    refine aw_iconst (v := 1) dX3_tell_30 (by decide) ?_
    refine aw_iload_n 2 dX3_tell_31 rfl rfl ?_
    refine aw_ishl dX3_tell_32 ?_
    refine aw_goto 37 dX3_tell_33 (by decide) ?_
    exact J9
def T_X3_told_4 (l : Launch) (G : aG) (d mc ms : Nat) (P : aR → aH → Prop) (x0 : Nat) (x1 : Int32) (x2 : Int32) (h : aH) (c s : Nat) : Prop := c ≤ mc → s ≤ ms → AW l G mX3_told d mc ms P 4 [(0, .ref x0), (1, .int x1), (2, .int x2)] [] h c s
def V_X3_told_4 (l : Launch) (G : aG) (d mc ms : Nat) (P : aR → aH → Prop) (x0 : Nat) (x1 : Int32) (x2 : Int32) (h : aH) (c s : Nat) : Prop :=
  vIs h x0 3 (
  vC l G mX3_edgeCount (wsN mX3_edgeCount) d mc ms [.ref x0] h c s (xP P) (kI fun y1 h2 c3 s4 => 
  (y1 ≤ x2 → 
    P (.inl (some (.int x1))) h2
    ) ∧ (¬ y1 ≤ x2 → 
    vR h2 x0 3 0 fun a6 =>
    vA .int h2 a6 x2 fun y7 =>
    ∀ v9 : Int32, v9 = (x1 + (if y7 = ((-1)) then (0 : Int32) else 1)) →
    T_X3_told_4 l G d mc ms P x0 v9 (x2 + 1) h2 c3 s4
    )))
set_option maxHeartbeats 4000000 in
theorem A_X3_told_4 {l : Launch} {G : aG} {d mc ms : Nat} {P : aR → aH → Prop} {x0 : Nat} {x1 : Int32} {x2 : Int32} {h : aH} {c s : Nat} (hl : l.stackTraces = false) (hv : V_X3_told_4 l G d mc ms P x0 x1 x2 h c s) : T_X3_told_4 l G d mc ms P x0 x1 x2 h c s := by
  intro hc hs
  unfold V_X3_told_4 at hv
  refine aw_iload_n 2 dX3_told_4 rfl rfl ?_
  refine aw_aload_n 0 (x := x0) dX3_told_5 rfl rfl ?_
  obtain ⟨⟨fs, he⟩, hv⟩ := hv
  obtain ⟨d2, mc2, ms2, Q, hM, hd9, hc9, hs9, hv, hx⟩ := hv
  refine aw_callV (rest := [.int x2]) hM he rfl rfl nX3_edgeCount q566 q528 q529 q121 q530 dX3_told_6 rfl hd9 (by decide) (Nat.le_of_ble_eq_true rfl) hc9 hs9 ?_ ?_
  rotate_left
  · exact fun E h2 q => aX_out (hx E h2 q) rfl hc9 hs9
  intro v9 h2 hq
  have hv := hv v9 h2 hq
  obtain ⟨y1, rfl, hv⟩ := hv
  refine aw_eqv (pc2 := 9) (st2 := [.int y1, .int x2]) rfl rfl rfl rfl ?_
  revert hv hc9 hs9; generalize c + mc2 = c3; generalize s + ms2 = s4; intro hc9 hs9 hv
  refine aw_icmp_ge 36 dX3_told_9 (by decide) (fun c5 => ?_) (fun c5 => ?_)
  · have hv := hv.1 c5
    refine aw_iload_n 1 dX3_told_36 rfl rfl ?_
    exact aw_iret rfl dX3_told_37 hv hc9 hs9
  · have hv := hv.2 c5
    refine aw_iload_n 1 dX3_told_12 rfl rfl ?_
    refine aw_aload_n 0 (x := x0) dX3_told_13 rfl rfl ?_
    obtain ⟨fs, a6, he, hx, hv⟩ := hv
    refine aw_get (v := .ref a6) he rfl in_X3 0 (by decide) q321 (Or.inl rfl) hx dX3_told_14 ?_
    refine aw_iload_n 2 dX3_told_17 rfl rfl ?_
    obtain ⟨n9, f9, he, hin, hv⟩ := hv
    refine aw_iald he hin dX3_told_18 ?_
    revert hv; generalize f9 (x2).toNatClampNeg = y7; intro hv
    refine aw_iconst (v := (-1)) dX3_told_19 (by decide) ?_
    have J9 : AW l G mX3_told d mc ms P 28 [(0, .ref x0), (1, .int x1), (2, .int x2)] [.int (if y7 = ((-1)) then (0 : Int32) else 1), .int x1] h2 c3 s4 := by
      refine aw_iadd dX3_told_28 ?_
      refine aw_topi (fun v9 ev9 => ?_)
      have hv := hv v9 ev9
      refine aw_istore_n (lv' := [(1, .int v9), (0, .ref x0), (2, .int x2)]) dX3_told_29 rfl (Nat.le_of_ble_eq_true rfl) rfl ?_
      refine aw_iinc 2 (v := x2 + 1) (lv' := [(2, .int (x2 + 1)), (1, .int v9), (0, .ref x0)]) dX3_told_30 rfl rfl (Nat.le_of_ble_eq_true rfl) rfl ?_
      refine aw_goto 4 dX3_told_33 (by decide) ?_
      refine aw_sub [2, 1, 0] rfl ?_
      exact hv hc9 hs9
    refine aw_icmp_ne 27 dX3_told_20 (by decide) (fun c8 => ?_) (fun c8 => ?_)
    · have J9 := aw_ifF c8 J9
      refine aw_iconst (v := 1) dX3_told_27 (by decide) ?_
      exact J9
    · have J9 := aw_ifT c8 J9
      refine aw_iconst (v := 0) dX3_told_23 (by decide) ?_
      refine aw_goto 28 dX3_told_24 (by decide) ?_
      exact J9
def V_X3_told_0 (l : Launch) (G : aG) (d mc ms : Nat) (P : aR → aH → Prop) (x0 : Nat) (h : aH) : Prop :=
  T_X3_told_4 l G d mc ms P x0 0 0 h 0 0
set_option maxHeartbeats 4000000 in
theorem A_X3_told {l : Launch} {G : aG} {d mc ms : Nat} {P : aR → aH → Prop} {x0 : Nat} {h : aH} (hl : l.stackTraces = false) (hv : V_X3_told_0 l G d mc ms P x0 h) : aC l G mX3_told (wsN mX3_told) d mc ms [.ref x0] h P := by
  refine aC_ofF (M := mX3_told) rfl pX3_told (Nat.le_of_ble_eq_true rfl) hl ?_
  refine aw_eqv (lv2 := [(0, .ref x0)]) rfl rfl rfl rfl ?_
  unfold V_X3_told_0 at hv
  refine aw_iconst (v := 0) dX3_told_0 (by decide) ?_
  refine aw_istore_n (lv' := [(1, .int 0), (0, .ref x0)]) dX3_told_1 rfl (Nat.le_of_ble_eq_true rfl) rfl ?_
  refine aw_iconst (v := 0) dX3_told_2 (by decide) ?_
  refine aw_istore_n (lv' := [(2, .int 0), (1, .int 0), (0, .ref x0)]) dX3_told_3 rfl (Nat.le_of_ble_eq_true rfl) rfl ?_
  refine aw_sub [2, 1, 0] rfl ?_
  exact hv (Nat.zero_le _) (Nat.zero_le _)
def V_X3_mirrored_0 (l : Launch) (G : aG) (d mc ms : Nat) (P : aR → aH → Prop) (x0 : Nat) (x1 : Int32) (h : aH) : Prop :=
  vI h x0 3 4 fun y1 =>
  ¬ y1 = 0 ∧
  vI h x0 3 4 fun y3 =>
  vI h x0 3 4 fun y4 =>
  ¬ y4 = 0 ∧
  P (.inl (some (.int (((x1 - x1 / y1 * y1) * y3) + (x1 / y4))))) h
set_option maxHeartbeats 4000000 in
theorem A_X3_mirrored {l : Launch} {G : aG} {d mc ms : Nat} {P : aR → aH → Prop} {x0 : Nat} {x1 : Int32} {h : aH} (hl : l.stackTraces = false) (hv : V_X3_mirrored_0 l G d mc ms P x0 x1 h) : aC l G mX3_mirrored (wsN mX3_mirrored) d mc ms [.ref x0, .int x1] h P := by
  refine aC_ofF (M := mX3_mirrored) rfl pX3_mirrored (Nat.le_of_ble_eq_true rfl) hl ?_
  refine aw_eqv (lv2 := [(0, .ref x0), (1, .int x1)]) rfl rfl rfl rfl ?_
  unfold V_X3_mirrored_0 at hv
  refine aw_iload_n 1 dX3_mirrored_0 rfl rfl ?_
  refine aw_aload_n 0 (x := x0) dX3_mirrored_1 rfl rfl ?_
  obtain ⟨fs, y1, he, hx, hv⟩ := hv
  refine aw_get (v := .int y1) he rfl in_X3 4 (by decide) q330 (Or.inl rfl) hx dX3_mirrored_2 ?_
  obtain ⟨z2, hv⟩ := hv
  refine aw_irem dX3_mirrored_5 z2 ?_
  refine aw_aload_n 0 (x := x0) dX3_mirrored_6 rfl rfl ?_
  obtain ⟨fs, y3, he, hx, hv⟩ := hv
  refine aw_get (v := .int y3) he rfl in_X3 4 (by decide) q330 (Or.inl rfl) hx dX3_mirrored_7 ?_
  refine aw_imul dX3_mirrored_10 ?_
  refine aw_iload_n 1 dX3_mirrored_11 rfl rfl ?_
  refine aw_aload_n 0 (x := x0) dX3_mirrored_12 rfl rfl ?_
  obtain ⟨fs, y4, he, hx, hv⟩ := hv
  refine aw_get (v := .int y4) he rfl in_X3 4 (by decide) q330 (Or.inl rfl) hx dX3_mirrored_13 ?_
  obtain ⟨z5, hv⟩ := hv
  refine aw_idiv dX3_mirrored_16 z5 ?_
  refine aw_iadd dX3_mirrored_17 ?_
  exact aw_iret rfl dX3_mirrored_18 hv (Nat.zero_le _) (Nat.zero_le _)
def V_X3_mirroredEdge_0 (l : Launch) (G : aG) (d mc ms : Nat) (P : aR → aH → Prop) (x0 : Nat) (x1 : Int32) (h : aH) : Prop :=
  vI h x0 3 4 fun y1 =>
  ¬ y1 = 0 ∧
  vI h x0 3 4 fun y3 =>
  vI h x0 3 4 fun y4 =>
  ¬ y4 = 0 ∧
  P (.inl (some (.int ((((3 : Int32) - (x1 / y1)) * y3) + (x1 - x1 / y4 * y4))))) h
set_option maxHeartbeats 4000000 in
theorem A_X3_mirroredEdge {l : Launch} {G : aG} {d mc ms : Nat} {P : aR → aH → Prop} {x0 : Nat} {x1 : Int32} {h : aH} (hl : l.stackTraces = false) (hv : V_X3_mirroredEdge_0 l G d mc ms P x0 x1 h) : aC l G mX3_mirroredEdge (wsN mX3_mirroredEdge) d mc ms [.ref x0, .int x1] h P := by
  refine aC_ofF (M := mX3_mirroredEdge) rfl pX3_mirroredEdge (Nat.le_of_ble_eq_true rfl) hl ?_
  refine aw_eqv (lv2 := [(0, .ref x0), (1, .int x1)]) rfl rfl rfl rfl ?_
  unfold V_X3_mirroredEdge_0 at hv
  refine aw_iconst (v := 3) dX3_mirroredEdge_0 (by decide) ?_
  refine aw_iload_n 1 dX3_mirroredEdge_1 rfl rfl ?_
  refine aw_aload_n 0 (x := x0) dX3_mirroredEdge_2 rfl rfl ?_
  obtain ⟨fs, y1, he, hx, hv⟩ := hv
  refine aw_get (v := .int y1) he rfl in_X3 4 (by decide) q330 (Or.inl rfl) hx dX3_mirroredEdge_3 ?_
  obtain ⟨z2, hv⟩ := hv
  refine aw_idiv dX3_mirroredEdge_6 z2 ?_
  refine aw_isub dX3_mirroredEdge_7 ?_
  refine aw_aload_n 0 (x := x0) dX3_mirroredEdge_8 rfl rfl ?_
  obtain ⟨fs, y3, he, hx, hv⟩ := hv
  refine aw_get (v := .int y3) he rfl in_X3 4 (by decide) q330 (Or.inl rfl) hx dX3_mirroredEdge_9 ?_
  refine aw_imul dX3_mirroredEdge_12 ?_
  refine aw_iload_n 1 dX3_mirroredEdge_13 rfl rfl ?_
  refine aw_aload_n 0 (x := x0) dX3_mirroredEdge_14 rfl rfl ?_
  obtain ⟨fs, y4, he, hx, hv⟩ := hv
  refine aw_get (v := .int y4) he rfl in_X3 4 (by decide) q330 (Or.inl rfl) hx dX3_mirroredEdge_15 ?_
  obtain ⟨z5, hv⟩ := hv
  refine aw_irem dX3_mirroredEdge_18 z5 ?_
  refine aw_iadd dX3_mirroredEdge_19 ?_
  exact aw_iret rfl dX3_mirroredEdge_20 hv (Nat.zero_le _) (Nat.zero_le _)
def V_X4_count_0 (l : Launch) (G : aG) (d mc ms : Nat) (P : aR → aH → Prop) (x0 : Nat) (h : aH) : Prop :=
  vR h x0 4 0 fun a1 =>
  vIs h a1 9 (
  vC l G mJ2_size (wsN mJ2_size) d mc ms [.ref a1] h 0 0 (xP P) (kI fun y2 h3 c4 s5 => 
  P (.inl (some (.int y2))) h3))
set_option maxHeartbeats 4000000 in
theorem A_X4_count {l : Launch} {G : aG} {d mc ms : Nat} {P : aR → aH → Prop} {x0 : Nat} {h : aH} (hl : l.stackTraces = false) (hv : V_X4_count_0 l G d mc ms P x0 h) : aC l G mX4_count (wsN mX4_count) d mc ms [.ref x0] h P := by
  refine aC_ofF (M := mX4_count) rfl pX4_count (Nat.le_of_ble_eq_true rfl) hl ?_
  refine aw_eqv (lv2 := [(0, .ref x0)]) rfl rfl rfl rfl ?_
  unfold V_X4_count_0 at hv
  refine aw_aload_n 0 (x := x0) dX4_count_0 rfl rfl ?_
  obtain ⟨fs, a1, he, hx, hv⟩ := hv
  refine aw_get (v := .ref a1) he rfl in_X4 0 (by decide) q300 (Or.inl rfl) hx dX4_count_1 ?_
  obtain ⟨⟨fs, he⟩, hv⟩ := hv
  obtain ⟨d2, mc2, ms2, Q, hM, hd9, hc9, hs9, hv, hx⟩ := hv
  refine aw_callF (rest := []) (x := ⟨"java/util/List", "size", "()I"⟩) hM he rfl (by decide +kernel : aNoMH ⟨"java/util/List", "size", "()I"⟩ 0) (by decide +kernel) q632 q474 q472 q125 q476 dX4_count_4 rfl hd9 (by decide) (Nat.le_of_ble_eq_true rfl) hc9 hs9 ?_ ?_
  rotate_left
  · exact fun E h2 q => aX_out (hx E h2 q) rfl hc9 hs9
  intro v9 h3 hq
  have hv := hv v9 h3 hq
  obtain ⟨y2, rfl, hv⟩ := hv
  refine aw_eqv (pc2 := 9) (st2 := [.int y2]) rfl rfl rfl rfl ?_
  revert hv hc9 hs9; generalize 0 + mc2 = c4; generalize 0 + ms2 = s5; intro hc9 hs9 hv
  exact aw_iret rfl dX4_count_9 hv hc9 hs9
def V_X4_at_0 (l : Launch) (G : aG) (d mc ms : Nat) (P : aR → aH → Prop) (x0 : Nat) (x1 : Int32) (h : aH) : Prop :=
  vR h x0 4 0 fun a1 =>
  vIs h a1 9 (
  vC l G mJ2_get (wsN mJ2_get) d mc ms [.ref a1, .int x1] h 0 0 (xP P) (kR fun a2 h3 c4 s5 => 
  vCastI h3 a2 (
  P (.inl (some (.ref a2))) h3)))
set_option maxHeartbeats 4000000 in
theorem A_X4_at {l : Launch} {G : aG} {d mc ms : Nat} {P : aR → aH → Prop} {x0 : Nat} {x1 : Int32} {h : aH} (hl : l.stackTraces = false) (hv : V_X4_at_0 l G d mc ms P x0 x1 h) : aC l G mX4_at (wsN mX4_at) d mc ms [.ref x0, .int x1] h P := by
  refine aC_ofF (M := mX4_at) rfl pX4_at (Nat.le_of_ble_eq_true rfl) hl ?_
  refine aw_eqv (lv2 := [(0, .ref x0), (1, .int x1)]) rfl rfl rfl rfl ?_
  unfold V_X4_at_0 at hv
  refine aw_aload_n 0 (x := x0) dX4_at_0 rfl rfl ?_
  obtain ⟨fs, a1, he, hx, hv⟩ := hv
  refine aw_get (v := .ref a1) he rfl in_X4 0 (by decide) q300 (Or.inl rfl) hx dX4_at_1 ?_
  refine aw_iload_n 1 dX4_at_4 rfl rfl ?_
  obtain ⟨⟨fs, he⟩, hv⟩ := hv
  obtain ⟨d2, mc2, ms2, Q, hM, hd9, hc9, hs9, hv, hx⟩ := hv
  refine aw_callF (rest := []) (x := ⟨"java/util/List", "get", "(I)Ljava/lang/Object;"⟩) hM he rfl (by decide +kernel : aNoMH ⟨"java/util/List", "get", "(I)Ljava/lang/Object;"⟩ 1) (by decide +kernel) q638 q643 q641 q125 q645 dX4_at_5 rfl hd9 (by decide) (Nat.le_of_ble_eq_true rfl) hc9 hs9 ?_ ?_
  rotate_left
  · exact fun E h2 q => aX_out (hx E h2 q) rfl hc9 hs9
  intro v9 h3 hq
  have hv := hv v9 h3 hq
  obtain ⟨a2, rfl, hv⟩ := hv
  refine aw_eqv (pc2 := 10) (st2 := [.ref a2]) rfl rfl rfl rfl ?_
  revert hv hc9 hs9; generalize 0 + mc2 = c4; generalize 0 + ms2 = s5; intro hc9 hs9 hv
  obtain ⟨⟨n9, f9, he⟩, hv⟩ := hv
  refine aw_castI q650 he dX4_at_10 ?_
  exact aw_aret rfl (Or.inr ⟨_, rfl⟩) (Or.inr ⟨_, rfl⟩) dX4_at_13 hv hc9 hs9
def V_X3_edgeOf_0 (l : Launch) (G : aG) (d mc ms : Nat) (P : aR → aH → Prop) (x0 : Nat) (x1 : Int32) (x2 : Int32) (h : aH) : Prop :=
  vI h x0 3 4 fun y1 =>
  (y1 ≤ x1 → 
    vI h x0 3 4 fun y3 =>
    (x2 = 0 → 
      P (.inl (some (.int ((x1 - y3) + (0 : Int32))))) h
      ) ∧ (¬ x2 = 0 → 
      vI h x0 3 4 fun y5 =>
      P (.inl (some (.int ((x1 - y3) + ((2 : Int32) * y5))))) h
      )
    ) ∧ (¬ y1 ≤ x1 → 
    (x2 = 0 → 
      vI h x0 3 4 fun y7 =>
      P (.inl (some (.int (x1 + ((3 : Int32) * y7))))) h
      ) ∧ (¬ x2 = 0 → 
      vI h x0 3 4 fun y8 =>
      P (.inl (some (.int (x1 + y8)))) h
      )
    )
set_option maxHeartbeats 4000000 in
theorem A_X3_edgeOf {l : Launch} {G : aG} {d mc ms : Nat} {P : aR → aH → Prop} {x0 : Nat} {x1 : Int32} {x2 : Int32} {h : aH} (hl : l.stackTraces = false) (hv : V_X3_edgeOf_0 l G d mc ms P x0 x1 x2 h) : aC l G mX3_edgeOf (wsN mX3_edgeOf) d mc ms [.ref x0, .int x1, .int x2] h P := by
  refine aC_ofF (M := mX3_edgeOf) rfl pX3_edgeOf (Nat.le_of_ble_eq_true rfl) hl ?_
  refine aw_eqv (lv2 := [(0, .ref x0), (1, .int x1), (2, .int x2)]) rfl rfl rfl rfl ?_
  unfold V_X3_edgeOf_0 at hv
  refine aw_iload_n 1 dX3_edgeOf_0 rfl rfl ?_
  refine aw_aload_n 0 (x := x0) dX3_edgeOf_1 rfl rfl ?_
  obtain ⟨fs, y1, he, hx, hv⟩ := hv
  refine aw_get (v := .int y1) he rfl in_X3 4 (by decide) q330 (Or.inl rfl) hx dX3_edgeOf_2 ?_
  refine aw_icmp_ge 28 dX3_edgeOf_5 (by decide) (fun c2 => ?_) (fun c2 => ?_)
  · have hv := hv.1 c2
    refine aw_iload_n 1 dX3_edgeOf_28 rfl rfl ?_
    refine aw_aload_n 0 (x := x0) dX3_edgeOf_29 rfl rfl ?_
    obtain ⟨fs, y3, he, hx, hv⟩ := hv
    refine aw_get (v := .int y3) he rfl in_X3 4 (by decide) q330 (Or.inl rfl) hx dX3_edgeOf_30 ?_
    refine aw_isub dX3_edgeOf_33 ?_
    refine aw_iload_n 2 dX3_edgeOf_34 rfl rfl ?_
    refine aw_if_eq 47 dX3_edgeOf_35 (by decide) (fun c4 => ?_) (fun c4 => ?_)
    · have hv := hv.1 c4
      refine aw_iconst (v := 0) dX3_edgeOf_47 (by decide) ?_
      refine aw_iadd dX3_edgeOf_48 ?_
      exact aw_iret rfl dX3_edgeOf_49 hv (Nat.zero_le _) (Nat.zero_le _)
    · have hv := hv.2 c4
      refine aw_iconst (v := 2) dX3_edgeOf_38 (by decide) ?_
      refine aw_aload_n 0 (x := x0) dX3_edgeOf_39 rfl rfl ?_
      obtain ⟨fs, y5, he, hx, hv⟩ := hv
      refine aw_get (v := .int y5) he rfl in_X3 4 (by decide) q330 (Or.inl rfl) hx dX3_edgeOf_40 ?_
      refine aw_imul dX3_edgeOf_43 ?_
      refine aw_goto 48 dX3_edgeOf_44 (by decide) ?_
      refine aw_iadd dX3_edgeOf_48 ?_
      exact aw_iret rfl dX3_edgeOf_49 hv (Nat.zero_le _) (Nat.zero_le _)
  · have hv := hv.2 c2
    refine aw_iload_n 1 dX3_edgeOf_8 rfl rfl ?_
    refine aw_iload_n 2 dX3_edgeOf_9 rfl rfl ?_
    refine aw_if_eq 20 dX3_edgeOf_10 (by decide) (fun c6 => ?_) (fun c6 => ?_)
    · have hv := hv.1 c6
      refine aw_iconst (v := 3) dX3_edgeOf_20 (by decide) ?_
      refine aw_aload_n 0 (x := x0) dX3_edgeOf_21 rfl rfl ?_
      obtain ⟨fs, y7, he, hx, hv⟩ := hv
      refine aw_get (v := .int y7) he rfl in_X3 4 (by decide) q330 (Or.inl rfl) hx dX3_edgeOf_22 ?_
      refine aw_imul dX3_edgeOf_25 ?_
      refine aw_iadd dX3_edgeOf_26 ?_
      exact aw_iret rfl dX3_edgeOf_27 hv (Nat.zero_le _) (Nat.zero_le _)
    · have hv := hv.2 c6
      refine aw_aload_n 0 (x := x0) dX3_edgeOf_13 rfl rfl ?_
      obtain ⟨fs, y8, he, hx, hv⟩ := hv
      refine aw_get (v := .int y8) he rfl in_X3 4 (by decide) q330 (Or.inl rfl) hx dX3_edgeOf_14 ?_
      refine aw_goto 26 dX3_edgeOf_17 (by decide) ?_
      refine aw_iadd dX3_edgeOf_26 ?_
      exact aw_iret rfl dX3_edgeOf_27 hv (Nat.zero_le _) (Nat.zero_le _)
def V_X3_isTrueAt_0 (l : Launch) (G : aG) (d mc ms : Nat) (P : aR → aH → Prop) (x0 : Nat) (x1 : Int32) (x2 : Nat) (h : aH) : Prop :=
  vR h x0 3 0 fun a1 =>
  vA .int h a1 x1 fun y2 =>
  (y2 = ((-1)) → 
    P (.inl (some (.int 1))) h
    ) ∧ (¬ y2 = ((-1)) → 
    vI h x0 3 5 fun y4 =>
    vI h x0 3 6 fun y5 =>
    vIs h x0 3 (
    vC l G mX3_looksBack (wsN mX3_looksBack) d mc ms [.ref x0, .int x1] h 0 0 (xP P) (kI fun y6 h7 c8 s9 => 
    vC l G mX1_seen (wsN mX1_seen) d mc ms [.int y4, .int ((y5 >>> (x1 &&& 31)) &&& (1 : Int32)), .int y6, .ref x2] h7 c8 s9 (xP P) (kI fun y10 h11 c12 s13 => 
    vB (if y10 = y2 then (1 : Int32) else 0) ∧ P (.inl (some (.int (if y10 = y2 then (1 : Int32) else 0)))) h11)))
    )
set_option maxHeartbeats 4000000 in
theorem A_X3_isTrueAt {l : Launch} {G : aG} {d mc ms : Nat} {P : aR → aH → Prop} {x0 : Nat} {x1 : Int32} {x2 : Nat} {h : aH} (hl : l.stackTraces = false) (hv : V_X3_isTrueAt_0 l G d mc ms P x0 x1 x2 h) : aC l G mX3_isTrueAt (wsN mX3_isTrueAt) d mc ms [.ref x0, .int x1, .ref x2] h P := by
  refine aC_ofF (M := mX3_isTrueAt) rfl pX3_isTrueAt (Nat.le_of_ble_eq_true rfl) hl ?_
  refine aw_eqv (lv2 := [(0, .ref x0), (1, .int x1), (2, .ref x2)]) rfl rfl rfl rfl ?_
  unfold V_X3_isTrueAt_0 at hv
  refine aw_aload_n 0 (x := x0) dX3_isTrueAt_0 rfl rfl ?_
  obtain ⟨fs, a1, he, hx, hv⟩ := hv
  refine aw_get (v := .ref a1) he rfl in_X3 0 (by decide) q321 (Or.inl rfl) hx dX3_isTrueAt_1 ?_
  refine aw_iload_n 1 dX3_isTrueAt_4 rfl rfl ?_
  obtain ⟨n9, f9, he, hin, hv⟩ := hv
  refine aw_iald he hin dX3_isTrueAt_5 ?_
  revert hv; generalize f9 (x1).toNatClampNeg = y2; intro hv
  refine aw_istore_n (lv' := [(3, .int y2), (0, .ref x0), (1, .int x1), (2, .ref x2)]) dX3_isTrueAt_6 rfl (Nat.le_of_ble_eq_true rfl) rfl ?_
  refine aw_iload_n 0 dX3_isTrueAt_7 rfl rfl ?_
  refine aw_iconst (v := (-1)) dX3_isTrueAt_8 (by decide) ?_
  refine aw_icmp_eq 37 dX3_isTrueAt_9 (by decide) (fun c3 => ?_) (fun c3 => ?_)
  · have hv := hv.1 c3
    refine aw_iconst (v := 1) dX3_isTrueAt_37 (by decide) ?_
    refine aw_goto 42 dX3_isTrueAt_38 (by decide) ?_
    exact aw_zret rfl rfl dX3_isTrueAt_42 hv (Nat.zero_le _) (Nat.zero_le _)
  · have hv := hv.2 c3
    refine aw_aload_n 1 (x := x0) dX3_isTrueAt_12 rfl rfl ?_
    obtain ⟨fs, y4, he, hx, hv⟩ := hv
    refine aw_get (v := .int y4) he rfl in_X3 5 (by decide) q334 (Or.inl rfl) hx dX3_isTrueAt_13 ?_
    refine aw_aload_n 1 (x := x0) dX3_isTrueAt_16 rfl rfl ?_
    obtain ⟨fs, y5, he, hx, hv⟩ := hv
    refine aw_get (v := .int y5) he rfl in_X3 6 (by decide) q336 (Or.inl rfl) hx dX3_isTrueAt_17 ?_
    refine aw_iload_n 2 dX3_isTrueAt_20 rfl rfl ?_
    refine aw_ishr dX3_isTrueAt_21 ?_
    refine aw_iconst (v := 1) dX3_isTrueAt_22 (by decide) ?_
    refine aw_iand dX3_isTrueAt_23 ?_
    refine aw_aload_n 1 (x := x0) dX3_isTrueAt_24 rfl rfl ?_
    refine aw_iload_n 2 dX3_isTrueAt_25 rfl rfl ?_
    obtain ⟨⟨fs, he⟩, hv⟩ := hv
    obtain ⟨d2, mc2, ms2, Q, hM, hd9, hc9, hs9, hv, hx⟩ := hv
    refine aw_callV (rest := [.int ((y5 >>> (x1 &&& 31)) &&& (1 : Int32)), .int y4]) hM he rfl rfl nX3_looksBack q668 q552 q553 q121 q554 dX3_isTrueAt_26 rfl hd9 (by decide) (Nat.le_of_ble_eq_true rfl) hc9 hs9 ?_ ?_
    rotate_left
    · exact fun E h2 q => aX_out (hx E h2 q) rfl hc9 hs9
    intro v9 h7 hq
    have hv := hv v9 h7 hq
    obtain ⟨y6, rfl, hv⟩ := hv
    refine aw_eqv (pc2 := 29) (st2 := [.int y6, .int ((y5 >>> (x1 &&& 31)) &&& (1 : Int32)), .int y4]) rfl rfl rfl rfl ?_
    revert hv hc9 hs9; generalize 0 + mc2 = c8; generalize 0 + ms2 = s9; intro hc9 hs9 hv
    refine aw_aload_n 3 (x := x2) dX3_isTrueAt_29 rfl rfl ?_
    obtain ⟨d2, mc2, ms2, Q, hM, hd9, hc9, hs9, hv, hx⟩ := hv
    refine aw_callSN (rest := []) hM nX1_seen q669 q556 q119 q557 dX3_isTrueAt_30 rfl hd9 (by decide) (Nat.le_of_ble_eq_true rfl) hc9 hs9 ?_ ?_
    rotate_left
    · exact fun E h2 q => aX_out (hx E h2 q) rfl hc9 hs9
    intro v9 h11 hq
    have hv := hv v9 h11 hq
    obtain ⟨y10, rfl, hv⟩ := hv
    refine aw_eqv (pc2 := 33) (st2 := [.int y10]) rfl rfl rfl rfl ?_
    revert hv hc9 hs9; generalize c8 + mc2 = c12; generalize s9 + ms2 = s13; intro hc9 hs9 hv
    refine aw_iload_n 0 dX3_isTrueAt_33 rfl rfl ?_
    have J9 : AW l G mX3_isTrueAt d mc ms P 42 [(3, .int y2), (0, .ref x0), (1, .int x1), (2, .ref x2)] [.int (if y10 = y2 then (1 : Int32) else 0)] h11 c12 s13 := by
      obtain ⟨z15, hv⟩ := hv
      exact aw_zret rfl z15.nar dX3_isTrueAt_42 hv hc9 hs9
    refine aw_icmp_ne 41 dX3_isTrueAt_34 (by decide) (fun c14 => ?_) (fun c14 => ?_)
    · have J9 := aw_ifF c14 J9
      refine aw_iconst (v := 0) dX3_isTrueAt_41 (by decide) ?_
      exact J9
    · have J9 := aw_ifT c14 J9
      refine aw_iconst (v := 1) dX3_isTrueAt_37 (by decide) ?_
      refine aw_goto 42 dX3_isTrueAt_38 (by decide) ?_
      exact J9
def V_X3_isTrue_0 (l : Launch) (G : aG) (d mc ms : Nat) (P : aR → aH → Prop) (x0 : Nat) (x1 : Int32) (x2 : Nat) (h : aH) : Prop :=
  vI h x0 3 4 fun y1 =>
  (((2 : Int32) * y1) ≤ x1 → 
    P (.inl (some (.int 1))) h
    ) ∧ (¬ ((2 : Int32) * y1) ≤ x1 → 
    vIs h x0 3 (
    vC l G mX3_edgeOf (wsN mX3_edgeOf) d mc ms [.ref x0, .int x1, .int 0] h 0 0 (xP P) (kI fun y3 h4 c5 s6 => 
    vIs h4 x0 3 (
    vC l G mX3_isTrueAt (wsN mX3_isTrueAt) d mc ms [.ref x0, .int y3, .ref x2] h4 c5 s6 (xP P) (kI fun y7 h8 c9 s10 => 
    (y7 = 0 → 
      P (.inl (some (.int 0))) h8
      ) ∧ (¬ y7 = 0 → 
      vIs h8 x0 3 (
      vC l G mX3_edgeOf (wsN mX3_edgeOf) d mc ms [.ref x0, .int x1, .int 1] h8 c9 s10 (xP P) (kI fun y12 h13 c14 s15 => 
      vIs h13 x0 3 (
      vC l G mX3_isTrueAt (wsN mX3_isTrueAt) d mc ms [.ref x0, .int y12, .ref x2] h13 c14 s15 (xP P) (kI fun y16 h17 c18 s19 => 
      vB (if y16 = 0 then (0 : Int32) else 1) ∧ P (.inl (some (.int (if y16 = 0 then (0 : Int32) else 1)))) h17))))
      )))))
    )
set_option maxHeartbeats 4000000 in
theorem A_X3_isTrue {l : Launch} {G : aG} {d mc ms : Nat} {P : aR → aH → Prop} {x0 : Nat} {x1 : Int32} {x2 : Nat} {h : aH} (hl : l.stackTraces = false) (hv : V_X3_isTrue_0 l G d mc ms P x0 x1 x2 h) : aC l G mX3_isTrue (wsN mX3_isTrue) d mc ms [.ref x0, .int x1, .ref x2] h P := by
  refine aC_ofF (M := mX3_isTrue) rfl pX3_isTrue (Nat.le_of_ble_eq_true rfl) hl ?_
  refine aw_eqv (lv2 := [(0, .ref x0), (1, .int x1), (2, .ref x2)]) rfl rfl rfl rfl ?_
  unfold V_X3_isTrue_0 at hv
  refine aw_iload_n 1 dX3_isTrue_0 rfl rfl ?_
  refine aw_iconst (v := 2) dX3_isTrue_1 (by decide) ?_
  refine aw_aload_n 0 (x := x0) dX3_isTrue_2 rfl rfl ?_
  obtain ⟨fs, y1, he, hx, hv⟩ := hv
  refine aw_get (v := .int y1) he rfl in_X3 4 (by decide) q330 (Or.inl rfl) hx dX3_isTrue_3 ?_
  refine aw_imul dX3_isTrue_6 ?_
  refine aw_icmp_ge 38 dX3_isTrue_7 (by decide) (fun c2 => ?_) (fun c2 => ?_)
  · have hv := hv.1 c2
    refine aw_iconst (v := 1) dX3_isTrue_38 (by decide) ?_
    refine aw_goto 43 dX3_isTrue_39 (by decide) ?_
    exact aw_zret rfl rfl dX3_isTrue_43 hv (Nat.zero_le _) (Nat.zero_le _)
  · have hv := hv.2 c2
    refine aw_aload_n 0 (x := x0) dX3_isTrue_10 rfl rfl ?_
    refine aw_aload_n 0 (x := x0) dX3_isTrue_11 rfl rfl ?_
    refine aw_iload_n 1 dX3_isTrue_12 rfl rfl ?_
    refine aw_iconst (v := 0) dX3_isTrue_13 (by decide) ?_
    obtain ⟨⟨fs, he⟩, hv⟩ := hv
    obtain ⟨d2, mc2, ms2, Q, hM, hd9, hc9, hs9, hv, hx⟩ := hv
    refine aw_callV (rest := [.ref x0]) hM he rfl rfl nX3_edgeOf q660 q662 qs11 q121 q663 dX3_isTrue_14 rfl hd9 (by decide) (Nat.le_of_ble_eq_true rfl) hc9 hs9 ?_ ?_
    rotate_left
    · exact fun E h2 q => aX_out (hx E h2 q) rfl hc9 hs9
    intro v9 h4 hq
    have hv := hv v9 h4 hq
    obtain ⟨y3, rfl, hv⟩ := hv
    refine aw_eqv (pc2 := 17) (st2 := [.int y3, .ref x0]) rfl rfl rfl rfl ?_
    revert hv hc9 hs9; generalize 0 + mc2 = c5; generalize 0 + ms2 = s6; intro hc9 hs9 hv
    refine aw_aload_n 2 (x := x2) dX3_isTrue_17 rfl rfl ?_
    obtain ⟨⟨fs, he⟩, hv⟩ := hv
    obtain ⟨d2, mc2, ms2, Q, hM, hd9, hc9, hs9, hv, hx⟩ := hv
    refine aw_callV (rest := []) hM he rfl rfl nX3_isTrueAt q664 q666 qs12 q121 q667 dX3_isTrue_18 rfl hd9 (by decide) (Nat.le_of_ble_eq_true rfl) hc9 hs9 ?_ ?_
    rotate_left
    · exact fun E h2 q => aX_out (hx E h2 q) rfl hc9 hs9
    intro v9 h8 hq
    have hv := hv v9 h8 hq
    obtain ⟨y7, rfl, hv⟩ := hv
    refine aw_eqv (pc2 := 21) (st2 := [.int y7]) rfl rfl rfl rfl ?_
    revert hv hc9 hs9; generalize c5 + mc2 = c9; generalize s6 + ms2 = s10; intro hc9 hs9 hv
    refine aw_if_eq 42 dX3_isTrue_21 (by decide) (fun c11 => ?_) (fun c11 => ?_)
    · have hv := hv.1 c11
      refine aw_iconst (v := 0) dX3_isTrue_42 (by decide) ?_
      exact aw_zret rfl rfl dX3_isTrue_43 hv hc9 hs9
    · have hv := hv.2 c11
      refine aw_aload_n 0 (x := x0) dX3_isTrue_24 rfl rfl ?_
      refine aw_aload_n 0 (x := x0) dX3_isTrue_25 rfl rfl ?_
      refine aw_iload_n 1 dX3_isTrue_26 rfl rfl ?_
      refine aw_iconst (v := 1) dX3_isTrue_27 (by decide) ?_
      obtain ⟨⟨fs, he⟩, hv⟩ := hv
      obtain ⟨d2, mc2, ms2, Q, hM, hd9, hc9, hs9, hv, hx⟩ := hv
      refine aw_callV (rest := [.ref x0]) hM he rfl rfl nX3_edgeOf q660 q662 qs11 q121 q663 dX3_isTrue_28 rfl hd9 (by decide) (Nat.le_of_ble_eq_true rfl) hc9 hs9 ?_ ?_
      rotate_left
      · exact fun E h2 q => aX_out (hx E h2 q) rfl hc9 hs9
      intro v9 h13 hq
      have hv := hv v9 h13 hq
      obtain ⟨y12, rfl, hv⟩ := hv
      refine aw_eqv (pc2 := 31) (st2 := [.int y12, .ref x0]) rfl rfl rfl rfl ?_
      revert hv hc9 hs9; generalize c9 + mc2 = c14; generalize s10 + ms2 = s15; intro hc9 hs9 hv
      refine aw_aload_n 2 (x := x2) dX3_isTrue_31 rfl rfl ?_
      obtain ⟨⟨fs, he⟩, hv⟩ := hv
      obtain ⟨d2, mc2, ms2, Q, hM, hd9, hc9, hs9, hv, hx⟩ := hv
      refine aw_callV (rest := []) hM he rfl rfl nX3_isTrueAt q664 q666 qs12 q121 q667 dX3_isTrue_32 rfl hd9 (by decide) (Nat.le_of_ble_eq_true rfl) hc9 hs9 ?_ ?_
      rotate_left
      · exact fun E h2 q => aX_out (hx E h2 q) rfl hc9 hs9
      intro v9 h17 hq
      have hv := hv v9 h17 hq
      obtain ⟨y16, rfl, hv⟩ := hv
      refine aw_eqv (pc2 := 35) (st2 := [.int y16]) rfl rfl rfl rfl ?_
      revert hv hc9 hs9; generalize c14 + mc2 = c18; generalize s15 + ms2 = s19; intro hc9 hs9 hv
      have J9 : AW l G mX3_isTrue d mc ms P 43 [(0, .ref x0), (1, .int x1), (2, .ref x2)] [.int (if y16 = 0 then (0 : Int32) else 1)] h17 c18 s19 := by
        obtain ⟨z21, hv⟩ := hv
        exact aw_zret rfl z21.nar dX3_isTrue_43 hv hc9 hs9
      refine aw_if_eq 42 dX3_isTrue_35 (by decide) (fun c20 => ?_) (fun c20 => ?_)
      · have J9 := aw_ifT c20 J9
        refine aw_iconst (v := 0) dX3_isTrue_42 (by decide) ?_
        exact J9
      · have J9 := aw_ifF c20 J9
        refine aw_iconst (v := 1) dX3_isTrue_38 (by decide) ?_
        refine aw_goto 43 dX3_isTrue_39 (by decide) ?_
        exact J9
def V_X3_gaps_0 (l : Launch) (G : aG) (d mc ms : Nat) (P : aR → aH → Prop) (x0 : Nat) (h : aH) : Prop :=
  vI h x0 3 4 fun y1 =>
  vI h x0 3 5 fun y2 =>
  P (.inl (some (.int (y1 - y2)))) h
set_option maxHeartbeats 4000000 in
theorem A_X3_gaps {l : Launch} {G : aG} {d mc ms : Nat} {P : aR → aH → Prop} {x0 : Nat} {h : aH} (hl : l.stackTraces = false) (hv : V_X3_gaps_0 l G d mc ms P x0 h) : aC l G mX3_gaps (wsN mX3_gaps) d mc ms [.ref x0] h P := by
  refine aC_ofF (M := mX3_gaps) rfl pX3_gaps (Nat.le_of_ble_eq_true rfl) hl ?_
  refine aw_eqv (lv2 := [(0, .ref x0)]) rfl rfl rfl rfl ?_
  unfold V_X3_gaps_0 at hv
  refine aw_aload_n 0 (x := x0) dX3_gaps_0 rfl rfl ?_
  obtain ⟨fs, y1, he, hx, hv⟩ := hv
  refine aw_get (v := .int y1) he rfl in_X3 4 (by decide) q330 (Or.inl rfl) hx dX3_gaps_1 ?_
  refine aw_aload_n 0 (x := x0) dX3_gaps_4 rfl rfl ?_
  obtain ⟨fs, y2, he, hx, hv⟩ := hv
  refine aw_get (v := .int y2) he rfl in_X3 5 (by decide) q334 (Or.inl rfl) hx dX3_gaps_5 ?_
  refine aw_isub dX3_gaps_8 ?_
  exact aw_iret rfl dX3_gaps_9 hv (Nat.zero_le _) (Nat.zero_le _)
def V_X8_init_0 (l : Launch) (G : aG) (d mc ms : Nat) (P : aR → aH → Prop) (x0 : Nat) (x1 : Int32) (h : aH) : Prop :=
  1 ≤ d ∧
  vNewA .int h (25 : Int32) mc ms 0 0 fun a1 h2 c3 s4 => h a1 = none →
  vPut h2 x0 7 1 (.ref a1) fun h6 =>
  vPut h6 x0 7 3 (.int 33554431) fun h7 =>
  vPut h7 x0 7 0 (.int x1) fun h8 =>
  P (.inl none) h8
set_option maxHeartbeats 4000000 in
theorem A_X8_init {l : Launch} {G : aG} {d mc ms : Nat} {P : aR → aH → Prop} {x0 : Nat} {x1 : Int32} {h : aH} (hl : l.stackTraces = false) (hv : V_X8_init_0 l G d mc ms P x0 x1 h) : aC l G mX8_init (wsN mX8_init) d mc ms [.ref x0, .int x1] h P := by
  refine aC_ofF (M := mX8_init) rfl pX8_init (Nat.le_of_ble_eq_true rfl) hl ?_
  refine aw_eqv (lv2 := [(0, .ref x0), (1, .int x1)]) rfl rfl rfl rfl ?_
  unfold V_X8_init_0 at hv
  refine aw_aload_n 0 (x := x0) dX8_init_0 rfl rfl ?_
  obtain ⟨hd9, hv⟩ := hv
  refine aw_objInit q789 q159 q160 hd9 (Nat.le_of_ble_eq_true rfl) dX8_init_1 ?_
  refine aw_aload_n 0 (x := x0) dX8_init_4 rfl rfl ?_
  refine aw_bipush (v := 25) dX8_init_5 (by decide) ?_
  obtain ⟨N9, hn9, hN9, hb9, hc9, hs9, hv⟩ := hv
  refine aw_newa (atype := .int) (ty := .int) (a0 := (N9, .inl fun _ => 0)) rfl 0 rfl q215 (fun _ => rfl) hn9 hN9 (by show _ * 4 ≤ _; omega) (fun _ _ h9 => h9) hc9 hs9 dX8_init_7 (fun a1 g5 => ?_)
  have hv := hv a1 g5 g5
  refine aw_eqv (pc2 := 9) (st2 := [.ref a1, .ref x0]) rfl rfl rfl rfl ?_
  revert hv hc9 hs9; generalize aUp h a1 (.inl (.int, (N9, .inl fun _ => 0))) = h2; generalize 0 + 1 = c3; generalize 0 + N9 = s4; intro hc9 hs9 hv
  obtain ⟨fs, he, hk9, hv⟩ := hv
  refine aw_putF he rfl in_X8 tyX8_ok nmX8 1 (by decide) q793 (Or.inl rfl) rfl rfl rfl rfl rfl hk9 rfl dX8_init_9 ?_
  revert hv; generalize aUp h2 x0 (.inr (7, fs.set 1 (.ref a1))) = h6; intro hv
  refine aw_aload_n 0 (x := x0) dX8_init_12 rfl rfl ?_
  refine aw_ldc (v := 33554431) q790 dX8_init_13 ?_
  obtain ⟨fs, he, hk9, hv⟩ := hv
  refine aw_put he rfl in_X8 tyX8_ok nmX8 3 (by decide) q798 (Or.inl rfl) rfl rfl rfl hk9 rfl dX8_init_15 ?_
  revert hv; generalize aUp h6 x0 (.inr (7, fs.set 3 (.int 33554431))) = h7; intro hv
  refine aw_aload_n 0 (x := x0) dX8_init_18 rfl rfl ?_
  refine aw_iload_n 1 dX8_init_19 rfl rfl ?_
  obtain ⟨fs, he, hk9, hv⟩ := hv
  refine aw_putF he rfl in_X8 tyX8_ok nmX8 0 (by decide) q791 (Or.inl rfl) rfl rfl rfl rfl rfl hk9 rfl dX8_init_20 ?_
  revert hv; generalize aUp h7 x0 (.inr (7, fs.set 0 (.int x1))) = h8; intro hv
  exact aw_vret rfl dX8_init_23 hv hc9 hs9
def T_X8_add_31 (l : Launch) (G : aG) (d mc ms : Nat) (P : aR → aH → Prop) (x0 : Nat) (x1 : Nat) (x2 : Int32) (h : aH) (c s : Nat) : Prop := c ≤ mc → s ≤ ms → AW l G mX8_add d mc ms P 31 [(0, .ref x0), (1, .ref x1), (2, .int x2)] [] h c s
def V_X8_add_31 (l : Launch) (G : aG) (d mc ms : Nat) (P : aR → aH → Prop) (x0 : Nat) (x1 : Nat) (x2 : Int32) (h : aH) (c s : Nat) : Prop :=
  (25 ≤ x2 → 
    P (.inl none) h
    ) ∧ (¬ 25 ≤ x2 → 
    vI h x0 7 3 fun y2 =>
    vA .int h x1 x2 fun y3 =>
    vR h x0 7 1 fun a4 =>
    vA .int h a4 x2 fun y5 =>
    vPut h x0 7 3 (.int (y2 &&& (if y3 = y5 then ((-1) : Int32) else ((1 : Int32) <<< (x2 &&& 31)) ^^^ ((-1) : Int32)))) fun h7 =>
    T_X8_add_31 l G d mc ms P x0 x1 (x2 + 1) h7 c s
    )
set_option maxHeartbeats 4000000 in
theorem A_X8_add_31 {l : Launch} {G : aG} {d mc ms : Nat} {P : aR → aH → Prop} {x0 : Nat} {x1 : Nat} {x2 : Int32} {h : aH} {c s : Nat} (hl : l.stackTraces = false) (hv : V_X8_add_31 l G d mc ms P x0 x1 x2 h c s) : T_X8_add_31 l G d mc ms P x0 x1 x2 h c s := by
  intro hc hs
  unfold V_X8_add_31 at hv
  refine aw_iload_n 2 dX8_add_31 rfl rfl ?_
  refine aw_bipush (v := 25) dX8_add_32 (by decide) ?_
  refine aw_icmp_ge 73 dX8_add_34 (by decide) (fun c1 => ?_) (fun c1 => ?_)
  · have hv := hv.1 c1
    exact aw_vret rfl dX8_add_73 hv hc hs
  · have hv := hv.2 c1
    refine aw_aload_n 0 (x := x0) dX8_add_37 rfl rfl ?_
    refine aw_dup dX8_add_38 rfl ?_
    obtain ⟨fs, y2, he, hx, hv⟩ := hv
    refine aw_get (v := .int y2) he rfl in_X8 3 (by decide) q798 (Or.inl rfl) hx dX8_add_39 ?_
    refine aw_aload_n 1 (x := x1) dX8_add_42 rfl rfl ?_
    refine aw_iload_n 2 dX8_add_43 rfl rfl ?_
    obtain ⟨n9, f9, he, hin, hv⟩ := hv
    refine aw_iald he hin dX8_add_44 ?_
    revert hv; generalize f9 (x2).toNatClampNeg = y3; intro hv
    refine aw_aload_n 0 (x := x0) dX8_add_45 rfl rfl ?_
    obtain ⟨fs, a4, he, hx, hv⟩ := hv
    refine aw_get (v := .ref a4) he rfl in_X8 1 (by decide) q793 (Or.inl rfl) hx dX8_add_46 ?_
    refine aw_iload_n 2 dX8_add_49 rfl rfl ?_
    obtain ⟨n9, f9, he, hin, hv⟩ := hv
    refine aw_iald he hin dX8_add_50 ?_
    revert hv; generalize f9 (x2).toNatClampNeg = y5; intro hv
    have J9 : AW l G mX8_add d mc ms P 63 [(0, .ref x0), (1, .ref x1), (2, .int x2)] [.int (if y3 = y5 then ((-1) : Int32) else ((1 : Int32) <<< (x2 &&& 31)) ^^^ ((-1) : Int32)), .int y2, .ref x0] h c s := by
      refine aw_iand dX8_add_63 ?_
      obtain ⟨fs, he, hk9, hv⟩ := hv
      refine aw_put he rfl in_X8 tyX8_ok nmX8 3 (by decide) q798 (Or.inl rfl) rfl rfl rfl hk9 rfl dX8_add_64 ?_
      revert hv; generalize aUp h x0 (.inr (7, fs.set 3 (.int (y2 &&& (if y3 = y5 then ((-1) : Int32) else ((1 : Int32) <<< (x2 &&& 31)) ^^^ ((-1) : Int32)))))) = h7; intro hv
      refine aw_iinc 2 (v := x2 + 1) (lv' := [(2, .int (x2 + 1)), (0, .ref x0), (1, .ref x1)]) dX8_add_67 rfl rfl (Nat.le_of_ble_eq_true rfl) rfl ?_
      refine aw_goto 31 dX8_add_70 (by decide) ?_
      refine aw_sub [1, 2, 0] rfl ?_
      exact hv hc hs
    refine aw_icmp_ne 58 dX8_add_51 (by decide) (fun c6 => ?_) (fun c6 => ?_)
    · have J9 := aw_ifF c6 J9
      refine aw_iconst (v := 1) dX8_add_58 (by decide) ?_
      refine aw_iload_n 2 dX8_add_59 rfl rfl ?_
      refine aw_ishl dX8_add_60 ?_
      refine aw_iconst (v := (-1)) dX8_add_61 (by decide) ?_
      refine aw_ixor dX8_add_62 ?_
      exact J9
    · have J9 := aw_ifT c6 J9
      refine aw_iconst (v := (-1)) dX8_add_54 (by decide) ?_
      refine aw_goto 63 dX8_add_55 (by decide) ?_
      exact J9
def V_X8_add_0 (l : Launch) (G : aG) (d mc ms : Nat) (P : aR → aH → Prop) (x0 : Nat) (x1 : Nat) (h : aH) : Prop :=
  vI h x0 7 2 fun y8 =>
  (¬ y8 = 0 → 
    vI h x0 7 2 fun y10 =>
    vPut h x0 7 2 (.int (y10 + (1 : Int32))) fun h11 =>
    T_X8_add_31 l G d mc ms P x0 x1 0 h11 0 0
    ) ∧ (y8 = 0 → 
    vR h x0 7 1 fun a12 =>
    1 ≤ d ∧ vCpyI .int h x1 (0 : Int32) a12 (0 : Int32) (25 : Int32) fun h13 =>
    vI h13 x0 7 2 fun y14 =>
    vPut h13 x0 7 2 (.int (y14 + (1 : Int32))) fun h15 =>
    T_X8_add_31 l G d mc ms P x0 x1 0 h15 0 0
    )
set_option maxHeartbeats 4000000 in
theorem A_X8_add {l : Launch} {G : aG} {d mc ms : Nat} {P : aR → aH → Prop} {x0 : Nat} {x1 : Nat} {h : aH} (hl : l.stackTraces = false) (hv : V_X8_add_0 l G d mc ms P x0 x1 h) : aC l G mX8_add (wsN mX8_add) d mc ms [.ref x0, .ref x1] h P := by
  refine aC_ofF (M := mX8_add) rfl pX8_add (Nat.le_of_ble_eq_true rfl) hl ?_
  refine aw_eqv (lv2 := [(0, .ref x0), (1, .ref x1)]) rfl rfl rfl rfl ?_
  unfold V_X8_add_0 at hv
  refine aw_aload_n 0 (x := x0) dX8_add_0 rfl rfl ?_
  obtain ⟨fs, y8, he, hx, hv⟩ := hv
  refine aw_get (v := .int y8) he rfl in_X8 2 (by decide) q795 (Or.inl rfl) hx dX8_add_1 ?_
  refine aw_if_ne 19 dX8_add_4 (by decide) (fun c9 => ?_) (fun c9 => ?_)
  · have hv := hv.1 c9
    refine aw_aload_n 0 (x := x0) dX8_add_19 rfl rfl ?_
    refine aw_dup dX8_add_20 rfl ?_
    obtain ⟨fs, y10, he, hx, hv⟩ := hv
    refine aw_get (v := .int y10) he rfl in_X8 2 (by decide) q795 (Or.inl rfl) hx dX8_add_21 ?_
    refine aw_iconst (v := 1) dX8_add_24 (by decide) ?_
    refine aw_iadd dX8_add_25 ?_
    obtain ⟨fs, he, hk9, hv⟩ := hv
    refine aw_put he rfl in_X8 tyX8_ok nmX8 2 (by decide) q795 (Or.inl rfl) rfl rfl rfl hk9 rfl dX8_add_26 ?_
    revert hv; generalize aUp h x0 (.inr (7, fs.set 2 (.int (y10 + (1 : Int32))))) = h11; intro hv
    refine aw_iconst (v := 0) dX8_add_29 (by decide) ?_
    refine aw_istore_n (lv' := [(2, .int 0), (0, .ref x0), (1, .ref x1)]) dX8_add_30 rfl (Nat.le_of_ble_eq_true rfl) rfl ?_
    refine aw_sub [1, 2, 0] rfl ?_
    exact hv (Nat.zero_le _) (Nat.zero_le _)
  · have hv := hv.2 c9
    refine aw_aload_n 1 (x := x1) dX8_add_7 rfl rfl ?_
    refine aw_iconst (v := 0) dX8_add_8 (by decide) ?_
    refine aw_aload_n 0 (x := x0) dX8_add_9 rfl rfl ?_
    obtain ⟨fs, a12, he, hx, hv⟩ := hv
    refine aw_get (v := .ref a12) he rfl in_X8 1 (by decide) q793 (Or.inl rfl) hx dX8_add_10 ?_
    refine aw_iconst (v := 0) dX8_add_13 (by decide) ?_
    refine aw_bipush (v := 25) dX8_add_14 (by decide) ?_
    obtain ⟨hd9, n0, n1, f9, g9, he0, he1, w1, w2, w3, w4, w5, hfit, hv⟩ := hv
    refine aw_copyI 0 rfl rfl q821 q222 q221 q126 he0 he1 w1 w2 w3 w4 w5 hfit hd9 (Nat.le_of_ble_eq_true rfl) rfl dX8_add_16 ?_
    revert hv; generalize aUp h a12 (aInts .int n1 (va_cpy f9 g9 ((0 : Int32)).toNatClampNeg ((0 : Int32)).toNatClampNeg ((25 : Int32)).toNatClampNeg)) = h13; intro hv
    refine aw_aload_n 0 (x := x0) dX8_add_19 rfl rfl ?_
    refine aw_dup dX8_add_20 rfl ?_
    obtain ⟨fs, y14, he, hx, hv⟩ := hv
    refine aw_get (v := .int y14) he rfl in_X8 2 (by decide) q795 (Or.inl rfl) hx dX8_add_21 ?_
    refine aw_iconst (v := 1) dX8_add_24 (by decide) ?_
    refine aw_iadd dX8_add_25 ?_
    obtain ⟨fs, he, hk9, hv⟩ := hv
    refine aw_put he rfl in_X8 tyX8_ok nmX8 2 (by decide) q795 (Or.inl rfl) rfl rfl rfl hk9 rfl dX8_add_26 ?_
    revert hv; generalize aUp h13 x0 (.inr (7, fs.set 2 (.int (y14 + (1 : Int32))))) = h15; intro hv
    refine aw_iconst (v := 0) dX8_add_29 (by decide) ?_
    refine aw_istore_n (lv' := [(2, .int 0), (0, .ref x0), (1, .ref x1)]) dX8_add_30 rfl (Nat.le_of_ble_eq_true rfl) rfl ?_
    refine aw_sub [1, 2, 0] rfl ?_
    exact hv (Nat.zero_le _) (Nat.zero_le _)
def V_X3_exchanged_0 (l : Launch) (G : aG) (d mc ms : Nat) (P : aR → aH → Prop) (x0 : Nat) (x1 : Int32) (x2 : Int32) (x3 : Int32) (h : aH) : Prop :=
  P (.inl (some (.int (if x1 = x2 then x3 else if x1 = x3 then x2 else x1)))) h
set_option maxHeartbeats 4000000 in
theorem A_X3_exchanged {l : Launch} {G : aG} {d mc ms : Nat} {P : aR → aH → Prop} {x0 : Nat} {x1 : Int32} {x2 : Int32} {x3 : Int32} {h : aH} (hl : l.stackTraces = false) (hv : V_X3_exchanged_0 l G d mc ms P x0 x1 x2 x3 h) : aC l G mX3_exchanged (wsN mX3_exchanged) d mc ms [.ref x0, .int x1, .int x2, .int x3] h P := by
  refine aC_ofF (M := mX3_exchanged) rfl pX3_exchanged (Nat.le_of_ble_eq_true rfl) hl ?_
  refine aw_eqv (lv2 := [(0, .ref x0), (1, .int x1), (2, .int x2), (3, .int x3)]) rfl rfl rfl rfl ?_
  unfold V_X3_exchanged_0 at hv
  refine aw_iload_n 1 dX3_exchanged_0 rfl rfl ?_
  refine aw_iload_n 2 dX3_exchanged_1 rfl rfl ?_
  have J9 : AW l G mX3_exchanged d mc ms P 19 [(0, .ref x0), (1, .int x1), (2, .int x2), (3, .int x3)] [.int (if x1 = x2 then x3 else if x1 = x3 then x2 else x1)] h 0 0 := by
    exact aw_iret rfl dX3_exchanged_19 hv (Nat.zero_le _) (Nat.zero_le _)
  refine aw_icmp_ne 9 dX3_exchanged_2 (by decide) (fun c1 => ?_) (fun c1 => ?_)
  · have J9 := aw_ifF c1 J9
    refine aw_iload_n 1 dX3_exchanged_9 rfl rfl ?_
    refine aw_iload_n 3 dX3_exchanged_10 rfl rfl ?_
    refine aw_icmp_ne 18 dX3_exchanged_11 (by decide) (fun c2 => ?_) (fun c2 => ?_)
    · have J9 := aw_ifF c2 J9
      refine aw_iload_n 1 dX3_exchanged_18 rfl rfl ?_
      exact J9
    · have J9 := aw_ifT c2 J9
      refine aw_iload_n 2 dX3_exchanged_14 rfl rfl ?_
      refine aw_goto 19 dX3_exchanged_15 (by decide) ?_
      exact J9
  · have J9 := aw_ifT c1 J9
    refine aw_iload_n 3 dX3_exchanged_5 rfl rfl ?_
    refine aw_goto 19 dX3_exchanged_6 (by decide) ?_
    exact J9
def T_X3_exchange_5 (l : Launch) (G : aG) (d mc ms : Nat) (P : aR → aH → Prop) (x0 : Nat) (x1 : Int32) (x2 : Int32) (x3 : Int32) (x4 : Int32) (h : aH) (c s : Nat) : Prop := c ≤ mc → s ≤ ms → AW l G mX3_exchange d mc ms P 5 [(0, .ref x0), (1, .int x1), (2, .int x2), (3, .int x3), (4, .int x4)] [] h c s
def T_X3_exchange_53 (l : Launch) (G : aG) (d mc ms : Nat) (P : aR → aH → Prop) (x0 : Nat) (x1 : Int32) (x2 : Int32) (x4 : Int32) (xs0 : Int32) (xs1 : Int32) (h : aH) (c s : Nat) : Prop := c ≤ mc → s ≤ ms → AW l G mX3_exchange d mc ms P 53 [(0, .ref x0), (1, .int x1), (2, .int x2), (4, .int x4)] [.int xs0, .int xs1] h c s
def V_X3_exchange_5 (l : Launch) (G : aG) (d mc ms : Nat) (P : aR → aH → Prop) (x0 : Nat) (x1 : Int32) (x2 : Int32) (x3 : Int32) (x4 : Int32) (h : aH) (c s : Nat) : Prop :=
  vIs h x0 3 (
  vC l G mX3_edgeCount (wsN mX3_edgeCount) d mc ms [.ref x0] h c s (xP P) (kI fun y1 h2 c3 s4 => 
  (y1 ≤ x4 → 
    P (.inl (some (.int x3))) h2
    ) ∧ (¬ y1 ≤ x4 → 
    vR h2 x0 3 0 fun a6 =>
    vA .int h2 a6 x4 fun y7 =>
    (y7 = ((-1)) → 
      T_X3_exchange_53 l G d mc ms P x0 x1 x2 x4 0 x3 h2 c3 s4
      ) ∧ (¬ y7 = ((-1)) → 
      vR h2 x0 3 0 fun a9 =>
      vA .int h2 a9 x4 fun y10 =>
      (y10 = x1 → 
        T_X3_exchange_53 l G d mc ms P x0 x1 x2 x4 1 x3 h2 c3 s4
        ) ∧ (¬ y10 = x1 → 
        vR h2 x0 3 0 fun a12 =>
        vA .int h2 a12 x4 fun y13 =>
        T_X3_exchange_53 l G d mc ms P x0 x1 x2 x4 (if y13 = x2 then (1 : Int32) else 0) x3 h2 c3 s4
        )
      )
    )))
set_option maxHeartbeats 4000000 in
theorem A_X3_exchange_5 {l : Launch} {G : aG} {d mc ms : Nat} {P : aR → aH → Prop} {x0 : Nat} {x1 : Int32} {x2 : Int32} {x3 : Int32} {x4 : Int32} {h : aH} {c s : Nat} (hl : l.stackTraces = false) (hv : V_X3_exchange_5 l G d mc ms P x0 x1 x2 x3 x4 h c s) : T_X3_exchange_5 l G d mc ms P x0 x1 x2 x3 x4 h c s := by
  intro hc hs
  unfold V_X3_exchange_5 at hv
  refine aw_iload 4 dX3_exchange_5 rfl ?_
  refine aw_aload_n 0 (x := x0) dX3_exchange_7 rfl rfl ?_
  obtain ⟨⟨fs, he⟩, hv⟩ := hv
  obtain ⟨d2, mc2, ms2, Q, hM, hd9, hc9, hs9, hv, hx⟩ := hv
  refine aw_callV (rest := [.int x4]) hM he rfl rfl nX3_edgeCount q566 q528 q529 q121 q530 dX3_exchange_8 rfl hd9 (by decide) (Nat.le_of_ble_eq_true rfl) hc9 hs9 ?_ ?_
  rotate_left
  · exact fun E h2 q => aX_out (hx E h2 q) rfl hc9 hs9
  intro v9 h2 hq
  have hv := hv v9 h2 hq
  obtain ⟨y1, rfl, hv⟩ := hv
  refine aw_eqv (pc2 := 11) (st2 := [.int y1, .int x4]) rfl rfl rfl rfl ?_
  revert hv hc9 hs9; generalize c + mc2 = c3; generalize s + ms2 = s4; intro hc9 hs9 hv
  refine aw_icmp_ge 81 dX3_exchange_11 (by decide) (fun c5 => ?_) (fun c5 => ?_)
  · have hv := hv.1 c5
    refine aw_iload_n 3 dX3_exchange_81 rfl rfl ?_
    exact aw_iret rfl dX3_exchange_82 hv hc9 hs9
  · have hv := hv.2 c5
    refine aw_iload_n 3 dX3_exchange_14 rfl rfl ?_
    refine aw_aload_n 0 (x := x0) dX3_exchange_15 rfl rfl ?_
    obtain ⟨fs, a6, he, hx, hv⟩ := hv
    refine aw_get (v := .ref a6) he rfl in_X3 0 (by decide) q321 (Or.inl rfl) hx dX3_exchange_16 ?_
    refine aw_iload 4 dX3_exchange_19 rfl ?_
    obtain ⟨n9, f9, he, hin, hv⟩ := hv
    refine aw_iald he hin dX3_exchange_21 ?_
    revert hv; generalize f9 (x4).toNatClampNeg = y7; intro hv
    refine aw_iconst (v := (-1)) dX3_exchange_22 (by decide) ?_
    refine aw_icmp_eq 52 dX3_exchange_23 (by decide) (fun c8 => ?_) (fun c8 => ?_)
    · have hv := hv.1 c8
      refine aw_iconst (v := 0) dX3_exchange_52 (by decide) ?_
      refine aw_sub [0, 1, 2, 4] rfl ?_
      exact hv hc9 hs9
    · have hv := hv.2 c8
      refine aw_aload_n 0 (x := x0) dX3_exchange_26 rfl rfl ?_
      obtain ⟨fs, a9, he, hx, hv⟩ := hv
      refine aw_get (v := .ref a9) he rfl in_X3 0 (by decide) q321 (Or.inl rfl) hx dX3_exchange_27 ?_
      refine aw_iload 4 dX3_exchange_30 rfl ?_
      obtain ⟨n9, f9, he, hin, hv⟩ := hv
      refine aw_iald he hin dX3_exchange_32 ?_
      revert hv; generalize f9 (x4).toNatClampNeg = y10; intro hv
      refine aw_iload_n 1 dX3_exchange_33 rfl rfl ?_
      refine aw_icmp_eq 48 dX3_exchange_34 (by decide) (fun c11 => ?_) (fun c11 => ?_)
      · have hv := hv.1 c11
        refine aw_iconst (v := 1) dX3_exchange_48 (by decide) ?_
        refine aw_goto 53 dX3_exchange_49 (by decide) ?_
        refine aw_sub [0, 1, 2, 4] rfl ?_
        exact hv hc9 hs9
      · have hv := hv.2 c11
        refine aw_aload_n 0 (x := x0) dX3_exchange_37 rfl rfl ?_
        obtain ⟨fs, a12, he, hx, hv⟩ := hv
        refine aw_get (v := .ref a12) he rfl in_X3 0 (by decide) q321 (Or.inl rfl) hx dX3_exchange_38 ?_
        refine aw_iload 4 dX3_exchange_41 rfl ?_
        obtain ⟨n9, f9, he, hin, hv⟩ := hv
        refine aw_iald he hin dX3_exchange_43 ?_
        revert hv; generalize f9 (x4).toNatClampNeg = y13; intro hv
        refine aw_iload_n 2 dX3_exchange_44 rfl rfl ?_
        have J9 : AW l G mX3_exchange d mc ms P 53 [(0, .ref x0), (1, .int x1), (2, .int x2), (3, .int x3), (4, .int x4)] [.int (if y13 = x2 then (1 : Int32) else 0), .int x3] h2 c3 s4 := by
          refine aw_sub [0, 1, 2, 4] rfl ?_
          exact hv hc9 hs9
        refine aw_icmp_ne 52 dX3_exchange_45 (by decide) (fun c14 => ?_) (fun c14 => ?_)
        · have J9 := aw_ifF c14 J9
          refine aw_iconst (v := 0) dX3_exchange_52 (by decide) ?_
          exact J9
        · have J9 := aw_ifT c14 J9
          refine aw_iconst (v := 1) dX3_exchange_48 (by decide) ?_
          refine aw_goto 53 dX3_exchange_49 (by decide) ?_
          exact J9
def V_X3_exchange_53 (l : Launch) (G : aG) (d mc ms : Nat) (P : aR → aH → Prop) (x0 : Nat) (x1 : Int32) (x2 : Int32) (x4 : Int32) (xs0 : Int32) (xs1 : Int32) (h : aH) (c s : Nat) : Prop :=
  vR h x0 3 0 fun a15 =>
  vR h x0 3 0 fun a16 =>
  vA .int h a16 x4 fun y17 =>
  vIs h x0 3 (
  vC l G mX3_exchanged (wsN mX3_exchanged) d mc ms [.ref x0, .int y17, .int x1, .int x2] h c s (xP P) (kI fun y18 h19 c20 s21 => 
  vSt .int h19 a15 x4 y18 fun h22 =>
  T_X3_exchange_5 l G d mc ms P x0 x1 x2 (xs1 + xs0) (x4 + 1) h22 c20 s21))
set_option maxHeartbeats 4000000 in
theorem A_X3_exchange_53 {l : Launch} {G : aG} {d mc ms : Nat} {P : aR → aH → Prop} {x0 : Nat} {x1 : Int32} {x2 : Int32} {x4 : Int32} {xs0 : Int32} {xs1 : Int32} {h : aH} {c s : Nat} (hl : l.stackTraces = false) (hv : V_X3_exchange_53 l G d mc ms P x0 x1 x2 x4 xs0 xs1 h c s) : T_X3_exchange_53 l G d mc ms P x0 x1 x2 x4 xs0 xs1 h c s := by
  intro hc hs
  unfold V_X3_exchange_53 at hv
  refine aw_iadd dX3_exchange_53 ?_
  refine aw_istore_n (lv' := [(3, .int (xs1 + xs0)), (0, .ref x0), (1, .int x1), (2, .int x2), (4, .int x4)]) dX3_exchange_54 rfl (Nat.le_of_ble_eq_true rfl) rfl ?_
  refine aw_aload_n 1 (x := x0) dX3_exchange_55 rfl rfl ?_
  obtain ⟨fs, a15, he, hx, hv⟩ := hv
  refine aw_get (v := .ref a15) he rfl in_X3 0 (by decide) q321 (Or.inl rfl) hx dX3_exchange_56 ?_
  refine aw_iload 4 dX3_exchange_59 rfl ?_
  refine aw_aload_n 1 (x := x0) dX3_exchange_61 rfl rfl ?_
  refine aw_aload_n 1 (x := x0) dX3_exchange_62 rfl rfl ?_
  obtain ⟨fs, a16, he, hx, hv⟩ := hv
  refine aw_get (v := .ref a16) he rfl in_X3 0 (by decide) q321 (Or.inl rfl) hx dX3_exchange_63 ?_
  refine aw_iload 4 dX3_exchange_66 rfl ?_
  obtain ⟨n9, f9, he, hin, hv⟩ := hv
  refine aw_iald he hin dX3_exchange_68 ?_
  revert hv; generalize f9 (x4).toNatClampNeg = y17; intro hv
  refine aw_iload_n 2 dX3_exchange_69 rfl rfl ?_
  refine aw_iload_n 3 dX3_exchange_70 rfl rfl ?_
  obtain ⟨⟨fs, he⟩, hv⟩ := hv
  obtain ⟨d2, mc2, ms2, Q, hM, hd9, hc9, hs9, hv, hx⟩ := hv
  refine aw_callV (rest := [.int x4, .ref a15]) hM he rfl rfl nX3_exchanged q1435 q1437 qs43 q121 q1438 dX3_exchange_71 rfl hd9 (by decide) (Nat.le_of_ble_eq_true rfl) hc9 hs9 ?_ ?_
  rotate_left
  · exact fun E h2 q => aX_out (hx E h2 q) rfl hc9 hs9
  intro v9 h19 hq
  have hv := hv v9 h19 hq
  obtain ⟨y18, rfl, hv⟩ := hv
  refine aw_eqv (pc2 := 74) (st2 := [.int y18, .int x4, .ref a15]) rfl rfl rfl rfl ?_
  revert hv hc9 hs9; generalize c + mc2 = c20; generalize s + ms2 = s21; intro hc9 hs9 hv
  obtain ⟨n9, f9, he, hin, hv⟩ := hv
  refine aw_iast he hin rfl dX3_exchange_74 ?_
  revert hv; generalize aUp h19 a15 (aInts .int n9 (upd f9 (x4).toNatClampNeg y18)) = h22; intro hv
  refine aw_iinc 4 (v := x4 + 1) (lv' := [(4, .int (x4 + 1)), (3, .int (xs1 + xs0)), (0, .ref x0), (1, .int x1), (2, .int x2)]) dX3_exchange_75 rfl rfl (Nat.le_of_ble_eq_true rfl) rfl ?_
  refine aw_goto 5 dX3_exchange_78 (by decide) ?_
  refine aw_sub [2, 3, 4, 1, 0] rfl ?_
  exact hv hc9 hs9
def V_X3_exchange_0 (l : Launch) (G : aG) (d mc ms : Nat) (P : aR → aH → Prop) (x0 : Nat) (x1 : Int32) (x2 : Int32) (h : aH) : Prop :=
  T_X3_exchange_5 l G d mc ms P x0 x1 x2 0 0 h 0 0
set_option maxHeartbeats 4000000 in
theorem A_X3_exchange {l : Launch} {G : aG} {d mc ms : Nat} {P : aR → aH → Prop} {x0 : Nat} {x1 : Int32} {x2 : Int32} {h : aH} (hl : l.stackTraces = false) (hv : V_X3_exchange_0 l G d mc ms P x0 x1 x2 h) : aC l G mX3_exchange (wsN mX3_exchange) d mc ms [.ref x0, .int x1, .int x2] h P := by
  refine aC_ofF (M := mX3_exchange) rfl pX3_exchange (Nat.le_of_ble_eq_true rfl) hl ?_
  refine aw_eqv (lv2 := [(0, .ref x0), (1, .int x1), (2, .int x2)]) rfl rfl rfl rfl ?_
  unfold V_X3_exchange_0 at hv
  refine aw_iconst (v := 0) dX3_exchange_0 (by decide) ?_
  refine aw_istore_n (lv' := [(3, .int 0), (0, .ref x0), (1, .int x1), (2, .int x2)]) dX3_exchange_1 rfl (Nat.le_of_ble_eq_true rfl) rfl ?_
  refine aw_iconst (v := 0) dX3_exchange_2 (by decide) ?_
  refine aw_istore (lv' := [(4, .int 0), (3, .int 0), (0, .ref x0), (1, .int x1), (2, .int x2)]) dX3_exchange_3 (Nat.le_of_ble_eq_true rfl) rfl ?_
  refine aw_sub [2, 3, 4, 1, 0] rfl ?_
  exact hv (Nat.zero_le _) (Nat.zero_le _)
def V_X7_init_0 (l : Launch) (G : aG) (d mc ms : Nat) (P : aR → aH → Prop) (x0 : Nat) (x1 : Nat) (h : aH) : Prop :=
  vPut h x0 6 1 (.ref x1) fun h1 =>
  1 ≤ d ∧
  P (.inl none) h1
set_option maxHeartbeats 4000000 in
theorem A_X7_init {l : Launch} {G : aG} {d mc ms : Nat} {P : aR → aH → Prop} {x0 : Nat} {x1 : Nat} {h : aH} (hl : l.stackTraces = false) (hv : V_X7_init_0 l G d mc ms P x0 x1 h) : aC l G mX7_init (wsN mX7_init) d mc ms [.ref x0, .ref x1] h P := by
  refine aC_ofF (M := mX7_init) rfl pX7_init (Nat.le_of_ble_eq_true rfl) hl ?_
  refine aw_eqv (lv2 := [(0, .ref x0), (1, .ref x1)]) rfl rfl rfl rfl ?_
  unfold V_X7_init_0 at hv
  refine aw_aload_n 0 (x := x0) dX7_init_0 rfl rfl ?_
  refine aw_aload_n 1 (x := x1) dX7_init_1 rfl rfl ?_
  obtain ⟨fs, he, hk9, hv⟩ := hv
  refine aw_putF he rfl in_X7 tyX7_ok nmX7 1 (by decide) q1534 (Or.inl rfl) rfl rfl rfl rfl rfl hk9 rfl dX7_init_2 ?_
  revert hv; generalize aUp h x0 (.inr (6, fs.set 1 (.ref x1))) = h1; intro hv
  refine aw_aload_n 0 (x := x0) dX7_init_5 rfl rfl ?_
  obtain ⟨hd9, hv⟩ := hv
  refine aw_objInit q1532 q159 q160 hd9 (Nat.le_of_ble_eq_true rfl) dX7_init_6 ?_
  exact aw_vret rfl dX7_init_9 hv (Nat.zero_le _) (Nat.zero_le _)
def V_X4_iterator_0 (l : Launch) (G : aG) (d mc ms : Nat) (P : aR → aH → Prop) (x0 : Nat) (h : aH) : Prop :=
  vNew h 6 2 [.int 0, .null] mc ms 0 0 fun a1 h2 c3 s4 => h a1 = none →
  vC l G mX7_init (wsN mX7_init) d mc ms [.ref a1, .ref x0] h2 c3 s4 (xP P) (kV fun h7 c8 s9 => 
  P (.inl (some (.ref a1))) h7)
set_option maxHeartbeats 4000000 in
theorem A_X4_iterator {l : Launch} {G : aG} {d mc ms : Nat} {P : aR → aH → Prop} {x0 : Nat} {h : aH} (hl : l.stackTraces = false) (hv : V_X4_iterator_0 l G d mc ms P x0 h) : aC l G mX4_iterator (wsN mX4_iterator) d mc ms [.ref x0] h P := by
  refine aC_ofF (M := mX4_iterator) rfl pX4_iterator (Nat.le_of_ble_eq_true rfl) hl ?_
  refine aw_eqv (lv2 := [(0, .ref x0)]) rfl rfl rfl rfl ?_
  unfold V_X4_iterator_0 at hv
  obtain ⟨hc9, hs9, hv⟩ := hv
  refine aw_new (N := 2) (fs := [.int 0, .null]) (rfl : aCl[6]? = _) in_X7 tyX7_ok q1527 q1528 q147 (by decide) hc9 hs9 dX4_iterator_0 (fun a1 g5 => ?_)
  have hv := hv a1 g5 g5
  refine aw_eqv (pc2 := 3) (st2 := [.ref a1]) rfl rfl rfl rfl ?_
  revert hv hc9 hs9; generalize aUp h a1 (.inr (6, [.int 0, .null])) = h2; generalize 0 + 1 = c3; generalize 0 + 2 = s4; intro hc9 hs9 hv
  refine aw_dup dX4_iterator_3 rfl ?_
  refine aw_aload_n 0 (x := x0) dX4_iterator_4 rfl rfl ?_
  obtain ⟨d2, mc2, ms2, Q, hM, hd9, hc9, hs9, hv, hx⟩ := hv
  refine aw_callI (rest := [.ref a1]) rfl hM nX7_init rfl q1529 q1530 q147 q1531 dX4_iterator_5 rfl hd9 (by decide) (Nat.le_of_ble_eq_true rfl) hc9 hs9 ?_ ?_
  rotate_left
  · exact fun E h2 q => aX_out (hx E h2 q) rfl hc9 hs9
  intro v9 h7 hq
  have hv := hv v9 h7 hq
  obtain ⟨rfl, hv⟩ := hv
  refine aw_eqv (pc2 := 8) (st2 := [.ref a1]) rfl rfl rfl rfl ?_
  revert hv hc9 hs9; generalize c3 + mc2 = c8; generalize s4 + ms2 = s9; intro hc9 hs9 hv
  exact aw_aret rfl (Or.inl ⟨_, rfl⟩) (Or.inr ⟨_, rfl⟩) dX4_iterator_8 hv hc9 hs9
def V_X7_hasNext_0 (l : Launch) (G : aG) (d mc ms : Nat) (P : aR → aH → Prop) (x0 : Nat) (h : aH) : Prop :=
  vI h x0 6 0 fun y1 =>
  vR h x0 6 1 fun a2 =>
  vR h a2 4 0 fun a3 =>
  vIs h a3 9 (
  vC l G mJ2_size (wsN mJ2_size) d mc ms [.ref a3] h 0 0 (xP P) (kI fun y4 h5 c6 s7 => 
  vB (if y4 ≤ y1 then (0 : Int32) else 1) ∧ P (.inl (some (.int (if y4 ≤ y1 then (0 : Int32) else 1)))) h5))
set_option maxHeartbeats 4000000 in
theorem A_X7_hasNext {l : Launch} {G : aG} {d mc ms : Nat} {P : aR → aH → Prop} {x0 : Nat} {h : aH} (hl : l.stackTraces = false) (hv : V_X7_hasNext_0 l G d mc ms P x0 h) : aC l G mX7_hasNext (wsN mX7_hasNext) d mc ms [.ref x0] h P := by
  refine aC_ofF (M := mX7_hasNext) rfl pX7_hasNext (Nat.le_of_ble_eq_true rfl) hl ?_
  refine aw_eqv (lv2 := [(0, .ref x0)]) rfl rfl rfl rfl ?_
  unfold V_X7_hasNext_0 at hv
  refine aw_aload_n 0 (x := x0) dX7_hasNext_0 rfl rfl ?_
  obtain ⟨fs, y1, he, hx, hv⟩ := hv
  refine aw_get (v := .int y1) he rfl in_X7 0 (by decide) q1533 (Or.inl rfl) hx dX7_hasNext_1 ?_
  refine aw_aload_n 0 (x := x0) dX7_hasNext_4 rfl rfl ?_
  obtain ⟨fs, a2, he, hx, hv⟩ := hv
  refine aw_get (v := .ref a2) he rfl in_X7 1 (by decide) q1534 (Or.inl rfl) hx dX7_hasNext_5 ?_
  obtain ⟨fs, a3, he, hx, hv⟩ := hv
  refine aw_getN (v := .ref a3) he rfl in_X4 0 (by decide) q301 (Or.inl rfl) hx dX7_hasNext_8 ?_
  obtain ⟨⟨fs, he⟩, hv⟩ := hv
  obtain ⟨d2, mc2, ms2, Q, hM, hd9, hc9, hs9, hv, hx⟩ := hv
  refine aw_callF (rest := [.int y1]) (x := ⟨"java/util/List", "size", "()I"⟩) hM he rfl (by decide +kernel : aNoMH ⟨"java/util/List", "size", "()I"⟩ 0) (by decide +kernel) q1551 q474 q472 q125 q476 dX7_hasNext_11 rfl hd9 (by decide) (Nat.le_of_ble_eq_true rfl) hc9 hs9 ?_ ?_
  rotate_left
  · exact fun E h2 q => aX_out (hx E h2 q) rfl hc9 hs9
  intro v9 h5 hq
  have hv := hv v9 h5 hq
  obtain ⟨y4, rfl, hv⟩ := hv
  refine aw_eqv (pc2 := 16) (st2 := [.int y4, .int y1]) rfl rfl rfl rfl ?_
  revert hv hc9 hs9; generalize 0 + mc2 = c6; generalize 0 + ms2 = s7; intro hc9 hs9 hv
  have J9 : AW l G mX7_hasNext d mc ms P 24 [(0, .ref x0)] [.int (if y4 ≤ y1 then (0 : Int32) else 1)] h5 c6 s7 := by
    obtain ⟨z9, hv⟩ := hv
    exact aw_zret rfl z9.nar dX7_hasNext_24 hv hc9 hs9
  refine aw_icmp_ge 23 dX7_hasNext_16 (by decide) (fun c8 => ?_) (fun c8 => ?_)
  · have J9 := aw_ifT c8 J9
    refine aw_iconst (v := 0) dX7_hasNext_23 (by decide) ?_
    exact J9
  · have J9 := aw_ifF c8 J9
    refine aw_iconst (v := 1) dX7_hasNext_19 (by decide) ?_
    refine aw_goto 24 dX7_hasNext_20 (by decide) ?_
    exact J9
def V_X7_next_2_0 (l : Launch) (G : aG) (d mc ms : Nat) (P : aR → aH → Prop) (x0 : Nat) (h : aH) : Prop :=
  vI h x0 6 0 fun y1 =>
  vPut h x0 6 0 (.int (y1 + (1 : Int32))) fun h2 =>
  vR h2 x0 6 1 fun a3 =>
  vR h2 a3 4 0 fun a4 =>
  vI h2 x0 6 0 fun y5 =>
  vIs h2 a4 9 (
  vC l G mJ2_get (wsN mJ2_get) d mc ms [.ref a4, .int (y5 - (1 : Int32))] h2 0 0 (xP P) (kR fun a6 h7 c8 s9 => 
  vCastI h7 a6 (
  P (.inl (some (.ref a6))) h7)))
set_option maxHeartbeats 4000000 in
theorem A_X7_next_2 {l : Launch} {G : aG} {d mc ms : Nat} {P : aR → aH → Prop} {x0 : Nat} {h : aH} (hl : l.stackTraces = false) (hv : V_X7_next_2_0 l G d mc ms P x0 h) : aC l G mX7_next_2 (wsN mX7_next_2) d mc ms [.ref x0] h P := by
  refine aC_ofF (M := mX7_next_2) rfl pX7_next_2 (Nat.le_of_ble_eq_true rfl) hl ?_
  refine aw_eqv (lv2 := [(0, .ref x0)]) rfl rfl rfl rfl ?_
  unfold V_X7_next_2_0 at hv
  refine aw_aload_n 0 (x := x0) dX7_next_2_0 rfl rfl ?_
  refine aw_dup dX7_next_2_1 rfl ?_
  obtain ⟨fs, y1, he, hx, hv⟩ := hv
  refine aw_get (v := .int y1) he rfl in_X7 0 (by decide) q1533 (Or.inl rfl) hx dX7_next_2_2 ?_
  refine aw_iconst (v := 1) dX7_next_2_5 (by decide) ?_
  refine aw_iadd dX7_next_2_6 ?_
  obtain ⟨fs, he, hk9, hv⟩ := hv
  refine aw_put he rfl in_X7 tyX7_ok nmX7 0 (by decide) q1533 (Or.inl rfl) rfl rfl rfl hk9 rfl dX7_next_2_7 ?_
  revert hv; generalize aUp h x0 (.inr (6, fs.set 0 (.int (y1 + (1 : Int32))))) = h2; intro hv
  refine aw_aload_n 0 (x := x0) dX7_next_2_10 rfl rfl ?_
  obtain ⟨fs, a3, he, hx, hv⟩ := hv
  refine aw_get (v := .ref a3) he rfl in_X7 1 (by decide) q1534 (Or.inl rfl) hx dX7_next_2_11 ?_
  obtain ⟨fs, a4, he, hx, hv⟩ := hv
  refine aw_getN (v := .ref a4) he rfl in_X4 0 (by decide) q301 (Or.inl rfl) hx dX7_next_2_14 ?_
  refine aw_aload_n 0 (x := x0) dX7_next_2_17 rfl rfl ?_
  obtain ⟨fs, y5, he, hx, hv⟩ := hv
  refine aw_get (v := .int y5) he rfl in_X7 0 (by decide) q1533 (Or.inl rfl) hx dX7_next_2_18 ?_
  refine aw_iconst (v := 1) dX7_next_2_21 (by decide) ?_
  refine aw_isub dX7_next_2_22 ?_
  obtain ⟨⟨fs, he⟩, hv⟩ := hv
  obtain ⟨d2, mc2, ms2, Q, hM, hd9, hc9, hs9, hv, hx⟩ := hv
  refine aw_callF (rest := []) (x := ⟨"java/util/List", "get", "(I)Ljava/lang/Object;"⟩) hM he rfl (by decide +kernel : aNoMH ⟨"java/util/List", "get", "(I)Ljava/lang/Object;"⟩ 1) (by decide +kernel) q1566 q643 q641 q125 q645 dX7_next_2_23 rfl hd9 (by decide) (Nat.le_of_ble_eq_true rfl) hc9 hs9 ?_ ?_
  rotate_left
  · exact fun E h2 q => aX_out (hx E h2 q) rfl hc9 hs9
  intro v9 h7 hq
  have hv := hv v9 h7 hq
  obtain ⟨a6, rfl, hv⟩ := hv
  refine aw_eqv (pc2 := 28) (st2 := [.ref a6]) rfl rfl rfl rfl ?_
  revert hv hc9 hs9; generalize 0 + mc2 = c8; generalize 0 + ms2 = s9; intro hc9 hs9 hv
  obtain ⟨⟨n9, f9, he⟩, hv⟩ := hv
  refine aw_castI q1567 he dX7_next_2_28 ?_
  exact aw_aret rfl (Or.inr ⟨_, rfl⟩) (Or.inr ⟨_, rfl⟩) dX7_next_2_31 hv hc9 hs9
def V_X7_next_0 (l : Launch) (G : aG) (d mc ms : Nat) (P : aR → aH → Prop) (x0 : Nat) (h : aH) : Prop :=
  vIs h x0 6 (
  vC l G mX7_next_2 (wsN mX7_next_2) d mc ms [.ref x0] h 0 0 (xP P) (kR fun a1 h2 c3 s4 => 
  P (.inl (some (.ref a1))) h2))
set_option maxHeartbeats 4000000 in
theorem A_X7_next {l : Launch} {G : aG} {d mc ms : Nat} {P : aR → aH → Prop} {x0 : Nat} {h : aH} (hl : l.stackTraces = false) (hv : V_X7_next_0 l G d mc ms P x0 h) : aC l G mX7_next (wsN mX7_next) d mc ms [.ref x0] h P := by
  refine aC_ofF (M := mX7_next) rfl pX7_next (Nat.le_of_ble_eq_true rfl) hl ?_
  refine aw_eqv (lv2 := [(0, .ref x0)]) rfl rfl rfl rfl ?_
  unfold V_X7_next_0 at hv
  refine aw_aload_n 0 (x := x0) dX7_next_0 rfl rfl ?_
  obtain ⟨⟨fs, he⟩, hv⟩ := hv
  obtain ⟨d2, mc2, ms2, Q, hM, hd9, hc9, hs9, hv, hx⟩ := hv
  refine aw_callV (rest := []) hM he rfl rfl nX7_next_2 q1561 q1562 q1563 q147 q1564 dX7_next_1 rfl hd9 (by decide) (Nat.le_of_ble_eq_true rfl) hc9 hs9 ?_ ?_
  rotate_left
  · exact fun E h2 q => aX_out (hx E h2 q) rfl hc9 hs9
  intro v9 h2 hq
  have hv := hv v9 h2 hq
  obtain ⟨a1, rfl, hv⟩ := hv
  refine aw_eqv (pc2 := 4) (st2 := [.ref a1]) rfl rfl rfl rfl ?_
  revert hv hc9 hs9; generalize 0 + mc2 = c3; generalize 0 + ms2 = s4; intro hc9 hs9 hv
  exact aw_aret rfl (Or.inl ⟨_, rfl⟩) (Or.inr ⟨_, rfl⟩) dX7_next_4 hv hc9 hs9
