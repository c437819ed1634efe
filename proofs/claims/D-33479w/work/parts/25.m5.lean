/-! the model: shallow functions and walks (printed by gen.py) -/
set_option maxRecDepth 100000
abbrev mX6_others : aM := (yX6_others, cX6_others, 10, some .int, [])
theorem nX6_others : aNoMH yX6_others 5 := by decide +kernel
def S_X6_others_c6 (st : MSt) : Nat → Int32 → Int32 → Int32 → Int32 → Int32 → Int32 → Int32 → Option (Int32)
  | 0, _, _, _, _, _, _, _ => none
  | n + 1, x1, x2, x3, x4, x5, x6, x7 =>
    if (st.2.1 0 0) ≤ x7 then
      some x6
    else
      (S_X6_cellAt x2 x7 st).bind fun q2 =>
      ob (x1 + q2) 750 fun j3 =>
      onm (st.2.1 5 j3) fun v5 =>
      if q2 = x3 then
        (S_X6_flag 0).bind fun q7 =>
        onm (x6 + q7) fun v8 =>
        S_X6_others_c6 st n x1 x2 x3 x4 x5 v8 (x7 + 1)
      else
        if x5 = 0 then
          (S_X6_has v5 x4).bind fun q10 =>
          if q10 = 0 then
            (S_X6_flag 0).bind fun q12 =>
            onm (x6 + q12) fun v13 =>
            S_X6_others_c6 st n x1 x2 x3 x4 x5 v13 (x7 + 1)
          else
            (S_X6_flag 1).bind fun q14 =>
            onm (x6 + q14) fun v15 =>
            S_X6_others_c6 st n x1 x2 x3 x4 x5 v15 (x7 + 1)
        else
          if v5 = ((1 : Int32) <<< (x4 &&& 31)) then
            (S_X6_flag 1).bind fun q19 =>
            onm (x6 + q19) fun v20 =>
            S_X6_others_c6 st n x1 x2 x3 x4 x5 v20 (x7 + 1)
          else
            (S_X6_flag 0).bind fun q17 =>
            onm (x6 + q17) fun v18 =>
            S_X6_others_c6 st n x1 x2 x3 x4 x5 v18 (x7 + 1)
set_option maxHeartbeats 2000000 in
theorem A_X6_others_c6 {l : Launch} {G : aG} {ad : Nat → Nat} {h0 : aH} (hok : mOk ad) (hl : l.stackTraces = false) {r : Int32} {st : MSt} : ∀ (n : Nat) (x1 : Int32) (x2 : Int32) (x3 : Int32) (x4 : Int32) (x5 : Int32) (x6 : Int32) (x7 : Int32), S_X6_others_c6 st n x1 x2 x3 x4 x5 x6 x7 = some r → AW l G mX6_others 1 0 0 (aP1 (some (.int r)) (mh ad st h0)) 6 [(0, .ref (ad 13)), (1, .int x1), (2, .int x2), (3, .int x3), (4, .int x4), (5, .int x5), (6, .int x6), (7, .int x7)] [] (mh ad st h0) 0 0 := by
  intro n
  induction n with
  | zero =>
    intro x1 x2 x3 x4 x5 x6 x7 hf
    rw [S_X6_others_c6] at hf
    cases hf
  | succ n ih =>
    intro x1 x2 x3 x4 x5 x6 x7 hf
    rw [S_X6_others_c6] at hf
    refine aw_iload 7 dX6_others_6 rfl ?_
    refine aw_aload_n 0 dX6_others_8 rfl rfl ?_
    refine aw_get (v := .ref (ad 0)) (mg_o hok) rfl in_X6 0 (by decide) q1739 (Or.inl rfl) rfl dX6_others_9 ?_
    refine aw_iconst (v := 0) dX6_others_12 (by decide) ?_
    refine aw_ialdj (j := 0) (mg_0 hok) (vpc (by decide)) (by decide) dX6_others_13 ?_
    refine aw_icmp_ge 89 dX6_others_14 (by decide) (fun c1 => ?_) (fun c1 => ?_)
    · have hf := it_t c1 hf
      refine aw_iload 6 dX6_others_89 rfl ?_
      cases hf
      exact aw_iret rfl dX6_others_91 aP1_rfl (Nat.le_refl _) (Nat.le_refl _)
    · have hf := it_f c1 hf
      refine aw_aload_n 0 dX6_others_17 rfl rfl ?_
      refine aw_iload_n 2 dX6_others_18 rfl rfl ?_
      refine aw_iload 7 dX6_others_19 rfl ?_
      obtain ⟨q2, eq2, hf⟩ := Option.bind_eq_some_iff.mp hf
      refine aw_callV (rest := []) (C_X6_cellAt hok hl eq2) (mg_o hok) rfl rfl nX6_cellAt q1892 q1894 qs67 q137 q1895 dX6_others_21 rfl (by decide) (by decide) (Nat.le_of_ble_eq_true rfl) (Nat.le_refl _) (Nat.le_refl _) (aP1_i ?_) aP1_x
      refine aw_istore (lv' := [(8, .int q2), (0, .ref (ad 13)), (1, .int x1), (2, .int x2), (3, .int x3), (4, .int x4), (5, .int x5), (6, .int x6), (7, .int x7)]) dX6_others_24 (Nat.le_of_ble_eq_true rfl) rfl ?_
      refine aw_aload_n 1 dX6_others_26 rfl rfl ?_
      refine aw_get (v := .ref (ad 5)) (mg_o hok) rfl in_X6 15 (by decide) q1754 (Or.inl rfl) rfl dX6_others_27 ?_
      refine aw_iload_n 2 dX6_others_30 rfl rfl ?_
      refine aw_iload 0 dX6_others_31 rfl ?_
      refine aw_iadd dX6_others_33 ?_
      obtain ⟨j3, z4, ej3, hf⟩ := ob_s hf
      refine aw_ialdj (mg_5 hok) z4 ej3 dX6_others_34 ?_
      refine aw_topi (fun v5 ev5 => ?_)
      have hf := onm_a ev5 hf
      refine aw_istore (lv' := [(9, .int v5), (8, .int q2), (0, .ref (ad 13)), (1, .int x1), (2, .int x2), (3, .int x3), (4, .int x4), (5, .int x5), (6, .int x6), (7, .int x7)]) dX6_others_35 (Nat.le_of_ble_eq_true rfl) rfl ?_
      refine aw_iload 8 dX6_others_37 rfl ?_
      refine aw_iload 1 dX6_others_39 rfl ?_
      refine aw_iload_n 5 dX6_others_41 rfl rfl ?_
      refine aw_icmp_eq 76 dX6_others_42 (by decide) (fun c6 => ?_) (fun c6 => ?_)
      · have hf := it_t c6 hf
        refine aw_iconst (v := 0) dX6_others_76 (by decide) ?_
        obtain ⟨q7, eq7, hf⟩ := Option.bind_eq_some_iff.mp hf
        refine aw_callS (rest := [.int x6]) (C_X6_flag hl eq7) nX6_flag q1865 q1866 q137 q1867 dX6_others_77 rfl (by decide) (by decide) (Nat.le_of_ble_eq_true rfl) (Nat.le_refl _) (Nat.le_refl _) (aP1_i ?_) aP1_x
        refine aw_iadd dX6_others_80 ?_
        refine aw_topi (fun v8 ev8 => ?_)
        have hf := onm_a ev8 hf
        refine aw_istore (lv' := [(6, .int v8), (9, .int v5), (8, .int q2), (0, .ref (ad 13)), (1, .int x1), (2, .int x2), (3, .int x3), (4, .int x4), (5, .int x5), (7, .int x7)]) dX6_others_81 (Nat.le_of_ble_eq_true rfl) rfl ?_
        refine aw_iinc 9 (v := x7 + 1) (lv' := [(7, .int (x7 + 1)), (6, .int v8), (9, .int v5), (8, .int q2), (0, .ref (ad 13)), (1, .int x1), (2, .int x2), (3, .int x3), (4, .int x4), (5, .int x5)]) dX6_others_83 rfl rfl (Nat.le_of_ble_eq_true rfl) rfl ?_
        refine aw_goto 6 dX6_others_86 (by decide) ?_
        refine aw_sub [4, 5, 6, 7, 8, 9, 1, 0] rfl ?_
        exact ih x1 x2 x3 x4 x5 v8 (x7 + 1) hf
      · have hf := it_f c6 hf
        refine aw_iload 7 dX6_others_45 rfl ?_
        refine aw_if_eq 62 dX6_others_47 (by decide) (fun c9 => ?_) (fun c9 => ?_)
        · have hf := it_t c9 hf
          refine aw_iload 0 dX6_others_62 rfl ?_
          refine aw_iload 6 dX6_others_64 rfl ?_
          obtain ⟨q10, eq10, hf⟩ := Option.bind_eq_some_iff.mp hf
          refine aw_callS (rest := [.int x6]) (C_X6_has hl eq10) nX6_has q1903 q1904 q137 q1905 dX6_others_66 rfl (by decide) (by decide) (Nat.le_of_ble_eq_true rfl) (Nat.le_refl _) (Nat.le_refl _) (aP1_i ?_) aP1_x
          refine aw_if_eq 76 dX6_others_69 (by decide) (fun c11 => ?_) (fun c11 => ?_)
          · have hf := it_t c11 hf
            refine aw_iconst (v := 0) dX6_others_76 (by decide) ?_
            obtain ⟨q12, eq12, hf⟩ := Option.bind_eq_some_iff.mp hf
            refine aw_callS (rest := [.int x6]) (C_X6_flag hl eq12) nX6_flag q1865 q1866 q137 q1867 dX6_others_77 rfl (by decide) (by decide) (Nat.le_of_ble_eq_true rfl) (Nat.le_refl _) (Nat.le_refl _) (aP1_i ?_) aP1_x
            refine aw_iadd dX6_others_80 ?_
            refine aw_topi (fun v13 ev13 => ?_)
            have hf := onm_a ev13 hf
            refine aw_istore (lv' := [(6, .int v13), (9, .int v5), (8, .int q2), (0, .ref (ad 13)), (1, .int x1), (2, .int x2), (3, .int x3), (4, .int x4), (5, .int x5), (7, .int x7)]) dX6_others_81 (Nat.le_of_ble_eq_true rfl) rfl ?_
            refine aw_iinc 9 (v := x7 + 1) (lv' := [(7, .int (x7 + 1)), (6, .int v13), (9, .int v5), (8, .int q2), (0, .ref (ad 13)), (1, .int x1), (2, .int x2), (3, .int x3), (4, .int x4), (5, .int x5)]) dX6_others_83 rfl rfl (Nat.le_of_ble_eq_true rfl) rfl ?_
            refine aw_goto 6 dX6_others_86 (by decide) ?_
            refine aw_sub [4, 5, 6, 7, 8, 9, 1, 0] rfl ?_
            exact ih x1 x2 x3 x4 x5 v13 (x7 + 1) hf
          · have hf := it_f c11 hf
            refine aw_iconst (v := 1) dX6_others_72 (by decide) ?_
            refine aw_goto 77 dX6_others_73 (by decide) ?_
            obtain ⟨q14, eq14, hf⟩ := Option.bind_eq_some_iff.mp hf
            refine aw_callS (rest := [.int x6]) (C_X6_flag hl eq14) nX6_flag q1865 q1866 q137 q1867 dX6_others_77 rfl (by decide) (by decide) (Nat.le_of_ble_eq_true rfl) (Nat.le_refl _) (Nat.le_refl _) (aP1_i ?_) aP1_x
            refine aw_iadd dX6_others_80 ?_
            refine aw_topi (fun v15 ev15 => ?_)
            have hf := onm_a ev15 hf
            refine aw_istore (lv' := [(6, .int v15), (9, .int v5), (8, .int q2), (0, .ref (ad 13)), (1, .int x1), (2, .int x2), (3, .int x3), (4, .int x4), (5, .int x5), (7, .int x7)]) dX6_others_81 (Nat.le_of_ble_eq_true rfl) rfl ?_
            refine aw_iinc 9 (v := x7 + 1) (lv' := [(7, .int (x7 + 1)), (6, .int v15), (9, .int v5), (8, .int q2), (0, .ref (ad 13)), (1, .int x1), (2, .int x2), (3, .int x3), (4, .int x4), (5, .int x5)]) dX6_others_83 rfl rfl (Nat.le_of_ble_eq_true rfl) rfl ?_
            refine aw_goto 6 dX6_others_86 (by decide) ?_
            refine aw_sub [4, 5, 6, 7, 8, 9, 1, 0] rfl ?_
            exact ih x1 x2 x3 x4 x5 v15 (x7 + 1) hf
        · have hf := it_f c9 hf
          refine aw_iload 0 dX6_others_50 rfl ?_
          refine aw_iconst (v := 1) dX6_others_52 (by decide) ?_
          refine aw_iload 6 dX6_others_53 rfl ?_
          refine aw_ishl dX6_others_55 ?_
          refine aw_icmp_ne 76 dX6_others_56 (by decide) (fun c16 => ?_) (fun c16 => ?_)
          · have hf := it_f c16 hf
            refine aw_iconst (v := 0) dX6_others_76 (by decide) ?_
            obtain ⟨q17, eq17, hf⟩ := Option.bind_eq_some_iff.mp hf
            refine aw_callS (rest := [.int x6]) (C_X6_flag hl eq17) nX6_flag q1865 q1866 q137 q1867 dX6_others_77 rfl (by decide) (by decide) (Nat.le_of_ble_eq_true rfl) (Nat.le_refl _) (Nat.le_refl _) (aP1_i ?_) aP1_x
            refine aw_iadd dX6_others_80 ?_
            refine aw_topi (fun v18 ev18 => ?_)
            have hf := onm_a ev18 hf
            refine aw_istore (lv' := [(6, .int v18), (9, .int v5), (8, .int q2), (0, .ref (ad 13)), (1, .int x1), (2, .int x2), (3, .int x3), (4, .int x4), (5, .int x5), (7, .int x7)]) dX6_others_81 (Nat.le_of_ble_eq_true rfl) rfl ?_
            refine aw_iinc 9 (v := x7 + 1) (lv' := [(7, .int (x7 + 1)), (6, .int v18), (9, .int v5), (8, .int q2), (0, .ref (ad 13)), (1, .int x1), (2, .int x2), (3, .int x3), (4, .int x4), (5, .int x5)]) dX6_others_83 rfl rfl (Nat.le_of_ble_eq_true rfl) rfl ?_
            refine aw_goto 6 dX6_others_86 (by decide) ?_
            refine aw_sub [4, 5, 6, 7, 8, 9, 1, 0] rfl ?_
            exact ih x1 x2 x3 x4 x5 v18 (x7 + 1) hf
          · have hf := it_t c16 hf
            refine aw_goto 72 dX6_others_59 (by decide) ?_
            refine aw_iconst (v := 1) dX6_others_72 (by decide) ?_
            refine aw_goto 77 dX6_others_73 (by decide) ?_
            obtain ⟨q19, eq19, hf⟩ := Option.bind_eq_some_iff.mp hf
            refine aw_callS (rest := [.int x6]) (C_X6_flag hl eq19) nX6_flag q1865 q1866 q137 q1867 dX6_others_77 rfl (by decide) (by decide) (Nat.le_of_ble_eq_true rfl) (Nat.le_refl _) (Nat.le_refl _) (aP1_i ?_) aP1_x
            refine aw_iadd dX6_others_80 ?_
            refine aw_topi (fun v20 ev20 => ?_)
            have hf := onm_a ev20 hf
            refine aw_istore (lv' := [(6, .int v20), (9, .int v5), (8, .int q2), (0, .ref (ad 13)), (1, .int x1), (2, .int x2), (3, .int x3), (4, .int x4), (5, .int x5), (7, .int x7)]) dX6_others_81 (Nat.le_of_ble_eq_true rfl) rfl ?_
            refine aw_iinc 9 (v := x7 + 1) (lv' := [(7, .int (x7 + 1)), (6, .int v20), (9, .int v5), (8, .int q2), (0, .ref (ad 13)), (1, .int x1), (2, .int x2), (3, .int x3), (4, .int x4), (5, .int x5)]) dX6_others_83 rfl rfl (Nat.le_of_ble_eq_true rfl) rfl ?_
            refine aw_goto 6 dX6_others_86 (by decide) ?_
            refine aw_sub [4, 5, 6, 7, 8, 9, 1, 0] rfl ?_
            exact ih x1 x2 x3 x4 x5 v20 (x7 + 1) hf
def S_X6_others (n : Nat) (x1 : Int32) (x2 : Int32) (x3 : Int32) (x4 : Int32) (x5 : Int32) (st : MSt) : Option (Int32) :=
  S_X6_others_c6 st n x1 x2 x3 x4 x5 0 0
set_option maxHeartbeats 2000000 in
theorem C_X6_others {l : Launch} {G : aG} {ad : Nat → Nat} {h0 : aH} (hok : mOk ad) (hl : l.stackTraces = false) {n : Nat} {x1 : Int32} {x2 : Int32} {x3 : Int32} {x4 : Int32} {x5 : Int32} {st : MSt} {r : Int32} (hf : S_X6_others n x1 x2 x3 x4 x5 st = some r) : aC l G mX6_others (ws_ yX6_others cX6_others 10 (some .int)) 1 0 0 [.ref (ad 13), .int x1, .int x2, .int x3, .int x4, .int x5] (mh ad st h0) (aP1 (some (.int r)) (mh ad st h0)) := by
  refine aC_of (M := mX6_others) rfl (by decide) (Nat.le_of_ble_eq_true rfl) hl ?_
  rw [S_X6_others] at hf
  refine aw_eqv (lv2 := [(0, .ref (ad 13)), (1, .int x1), (2, .int x2), (3, .int x3), (4, .int x4), (5, .int x5)]) rfl rfl rfl rfl ?_
  refine aw_iconst (v := 0) dX6_others_0 (by decide) ?_
  refine aw_istore (lv' := [(6, .int 0), (0, .ref (ad 13)), (1, .int x1), (2, .int x2), (3, .int x3), (4, .int x4), (5, .int x5)]) dX6_others_1 (Nat.le_of_ble_eq_true rfl) rfl ?_
  refine aw_iconst (v := 0) dX6_others_3 (by decide) ?_
  refine aw_istore (lv' := [(7, .int 0), (6, .int 0), (0, .ref (ad 13)), (1, .int x1), (2, .int x2), (3, .int x3), (4, .int x4), (5, .int x5)]) dX6_others_4 (Nat.le_of_ble_eq_true rfl) rfl ?_
  refine aw_sub [2, 3, 4, 5, 6, 7, 1, 0] rfl ?_
  exact A_X6_others_c6 hok hl n x1 x2 x3 x4 x5 0 0 hf
abbrev mX6_isAlone : aM := (yX6_isAlone, cX6_isAlone, 7, some .boolean, [])
theorem nX6_isAlone : aNoMH yX6_isAlone 4 := by decide +kernel
def S_X6_isAlone_c6 (st : MSt) : Nat → Int32 → Int32 → Int32 → Int32 → Int32 → Int32 → Option (Int32)
  | 0, _, _, _, _, _, _ => none
  | n + 1, x1, x2, x3, x4, x5, x6 =>
    if (st.2.1 0 1) ≤ x6 then
      onr .boolean x5 <|
      some x5
    else
      if x5 = 0 then
        if x6 = x4 then
          S_X6_isAlone_c6 st n x1 x2 x3 x4 0 (x6 + 1)
        else
          (S_X6_others n x1 x2 x3 x6 0 st).bind fun q5 =>
          if q5 = 0 then
            S_X6_isAlone_c6 st n x1 x2 x3 x4 1 (x6 + 1)
          else
            S_X6_isAlone_c6 st n x1 x2 x3 x4 0 (x6 + 1)
      else
        S_X6_isAlone_c6 st n x1 x2 x3 x4 1 (x6 + 1)
set_option maxHeartbeats 2000000 in
theorem A_X6_isAlone_c6 {l : Launch} {G : aG} {ad : Nat → Nat} {h0 : aH} (hok : mOk ad) (hl : l.stackTraces = false) {r : Int32} {st : MSt} : ∀ (n : Nat) (x1 : Int32) (x2 : Int32) (x3 : Int32) (x4 : Int32) (x5 : Int32) (x6 : Int32), S_X6_isAlone_c6 st n x1 x2 x3 x4 x5 x6 = some r → AW l G mX6_isAlone 2 0 0 (aP1 (some (.int r)) (mh ad st h0)) 6 [(0, .ref (ad 13)), (1, .int x1), (2, .int x2), (3, .int x3), (4, .int x4), (5, .int x5), (6, .int x6)] [] (mh ad st h0) 0 0 := by
  intro n
  induction n with
  | zero =>
    intro x1 x2 x3 x4 x5 x6 hf
    rw [S_X6_isAlone_c6] at hf
    cases hf
  | succ n ih =>
    intro x1 x2 x3 x4 x5 x6 hf
    rw [S_X6_isAlone_c6] at hf
    refine aw_iload 6 dX6_isAlone_6 rfl ?_
    refine aw_aload_n 0 dX6_isAlone_8 rfl rfl ?_
    refine aw_get (v := .ref (ad 0)) (mg_o hok) rfl in_X6 0 (by decide) q1739 (Or.inl rfl) rfl dX6_isAlone_9 ?_
    refine aw_iconst (v := 1) dX6_isAlone_12 (by decide) ?_
    refine aw_ialdj (j := 1) (mg_0 hok) (vpc (by decide)) (by decide) dX6_isAlone_13 ?_
    refine aw_icmp_ge 55 dX6_isAlone_14 (by decide) (fun c1 => ?_) (fun c1 => ?_)
    · have hf := it_t c1 hf
      refine aw_iload 5 dX6_isAlone_55 rfl ?_
      obtain ⟨z2, hf⟩ := onr_s hf
      cases hf
      exact aw_zret rfl z2 dX6_isAlone_57 aP1_rfl (Nat.le_refl _) (Nat.le_refl _)
    · have hf := it_f c1 hf
      refine aw_iload 5 dX6_isAlone_17 rfl ?_
      refine aw_if_ne 42 dX6_isAlone_19 (by decide) (fun c3 => ?_) (fun c3 => ?_)
      · have hf := it_f c3 hf
        refine aw_iconst (v := 1) dX6_isAlone_42 (by decide) ?_
        refine aw_goto 47 dX6_isAlone_43 (by decide) ?_
        refine aw_istore (lv' := [(5, .int 1), (0, .ref (ad 13)), (1, .int x1), (2, .int x2), (3, .int x3), (4, .int x4), (6, .int x6)]) dX6_isAlone_47 (Nat.le_of_ble_eq_true rfl) rfl ?_
        refine aw_iinc 6 (v := x6 + 1) (lv' := [(6, .int (x6 + 1)), (5, .int 1), (0, .ref (ad 13)), (1, .int x1), (2, .int x2), (3, .int x3), (4, .int x4)]) dX6_isAlone_49 rfl rfl (Nat.le_of_ble_eq_true rfl) rfl ?_
        refine aw_goto 6 dX6_isAlone_52 (by decide) ?_
        refine aw_sub [2, 3, 4, 5, 6, 1, 0] rfl ?_
        exact ih x1 x2 x3 x4 1 (x6 + 1) hf
      · have hf := it_t c3 hf
        refine aw_iload 6 dX6_isAlone_22 rfl ?_
        refine aw_iload 4 dX6_isAlone_24 rfl ?_
        refine aw_icmp_eq 46 dX6_isAlone_26 (by decide) (fun c4 => ?_) (fun c4 => ?_)
        · have hf := it_t c4 hf
          refine aw_iconst (v := 0) dX6_isAlone_46 (by decide) ?_
          refine aw_istore (lv' := [(5, .int 0), (0, .ref (ad 13)), (1, .int x1), (2, .int x2), (3, .int x3), (4, .int x4), (6, .int x6)]) dX6_isAlone_47 (Nat.le_of_ble_eq_true rfl) rfl ?_
          refine aw_iinc 6 (v := x6 + 1) (lv' := [(6, .int (x6 + 1)), (5, .int 0), (0, .ref (ad 13)), (1, .int x1), (2, .int x2), (3, .int x3), (4, .int x4)]) dX6_isAlone_49 rfl rfl (Nat.le_of_ble_eq_true rfl) rfl ?_
          refine aw_goto 6 dX6_isAlone_52 (by decide) ?_
          refine aw_sub [2, 3, 4, 5, 6, 1, 0] rfl ?_
          exact ih x1 x2 x3 x4 0 (x6 + 1) hf
        · have hf := it_f c4 hf
          refine aw_aload_n 0 dX6_isAlone_29 rfl rfl ?_
          refine aw_iload_n 1 dX6_isAlone_30 rfl rfl ?_
          refine aw_iload_n 2 dX6_isAlone_31 rfl rfl ?_
          refine aw_iload_n 3 dX6_isAlone_32 rfl rfl ?_
          refine aw_iload 6 dX6_isAlone_33 rfl ?_
          refine aw_iconst (v := 0) dX6_isAlone_35 (by decide) ?_
          obtain ⟨q5, eq5, hf⟩ := Option.bind_eq_some_iff.mp hf
          refine aw_callV (rest := []) (C_X6_others hok hl eq5) (mg_o hok) rfl rfl nX6_others q2086 q2088 qs88 q137 q2089 dX6_isAlone_36 rfl (by decide) (by decide) (Nat.le_of_ble_eq_true rfl) (Nat.le_refl _) (Nat.le_refl _) (aP1_i ?_) aP1_x
          refine aw_if_ne 46 dX6_isAlone_39 (by decide) (fun c6 => ?_) (fun c6 => ?_)
          · have hf := it_f c6 hf
            refine aw_iconst (v := 0) dX6_isAlone_46 (by decide) ?_
            refine aw_istore (lv' := [(5, .int 0), (0, .ref (ad 13)), (1, .int x1), (2, .int x2), (3, .int x3), (4, .int x4), (6, .int x6)]) dX6_isAlone_47 (Nat.le_of_ble_eq_true rfl) rfl ?_
            refine aw_iinc 6 (v := x6 + 1) (lv' := [(6, .int (x6 + 1)), (5, .int 0), (0, .ref (ad 13)), (1, .int x1), (2, .int x2), (3, .int x3), (4, .int x4)]) dX6_isAlone_49 rfl rfl (Nat.le_of_ble_eq_true rfl) rfl ?_
            refine aw_goto 6 dX6_isAlone_52 (by decide) ?_
            refine aw_sub [2, 3, 4, 5, 6, 1, 0] rfl ?_
            exact ih x1 x2 x3 x4 0 (x6 + 1) hf
          · have hf := it_t c6 hf
            refine aw_iconst (v := 1) dX6_isAlone_42 (by decide) ?_
            refine aw_goto 47 dX6_isAlone_43 (by decide) ?_
            refine aw_istore (lv' := [(5, .int 1), (0, .ref (ad 13)), (1, .int x1), (2, .int x2), (3, .int x3), (4, .int x4), (6, .int x6)]) dX6_isAlone_47 (Nat.le_of_ble_eq_true rfl) rfl ?_
            refine aw_iinc 6 (v := x6 + 1) (lv' := [(6, .int (x6 + 1)), (5, .int 1), (0, .ref (ad 13)), (1, .int x1), (2, .int x2), (3, .int x3), (4, .int x4)]) dX6_isAlone_49 rfl rfl (Nat.le_of_ble_eq_true rfl) rfl ?_
            refine aw_goto 6 dX6_isAlone_52 (by decide) ?_
            refine aw_sub [2, 3, 4, 5, 6, 1, 0] rfl ?_
            exact ih x1 x2 x3 x4 1 (x6 + 1) hf
def S_X6_isAlone (n : Nat) (x1 : Int32) (x2 : Int32) (x3 : Int32) (x4 : Int32) (st : MSt) : Option (Int32) :=
  S_X6_isAlone_c6 st n x1 x2 x3 x4 0 0
set_option maxHeartbeats 2000000 in
theorem C_X6_isAlone {l : Launch} {G : aG} {ad : Nat → Nat} {h0 : aH} (hok : mOk ad) (hl : l.stackTraces = false) {n : Nat} {x1 : Int32} {x2 : Int32} {x3 : Int32} {x4 : Int32} {st : MSt} {r : Int32} (hf : S_X6_isAlone n x1 x2 x3 x4 st = some r) : aC l G mX6_isAlone (ws_ yX6_isAlone cX6_isAlone 7 (some .boolean)) 2 0 0 [.ref (ad 13), .int x1, .int x2, .int x3, .int x4] (mh ad st h0) (aP1 (some (.int r)) (mh ad st h0)) := by
  refine aC_of (M := mX6_isAlone) rfl (by decide) (Nat.le_of_ble_eq_true rfl) hl ?_
  rw [S_X6_isAlone] at hf
  refine aw_eqv (lv2 := [(0, .ref (ad 13)), (1, .int x1), (2, .int x2), (3, .int x3), (4, .int x4)]) rfl rfl rfl rfl ?_
  refine aw_iconst (v := 0) dX6_isAlone_0 (by decide) ?_
  refine aw_istore (lv' := [(5, .int 0), (0, .ref (ad 13)), (1, .int x1), (2, .int x2), (3, .int x3), (4, .int x4)]) dX6_isAlone_1 (Nat.le_of_ble_eq_true rfl) rfl ?_
  refine aw_iconst (v := 0) dX6_isAlone_3 (by decide) ?_
  refine aw_istore (lv' := [(6, .int 0), (5, .int 0), (0, .ref (ad 13)), (1, .int x1), (2, .int x2), (3, .int x3), (4, .int x4)]) dX6_isAlone_4 (Nat.le_of_ble_eq_true rfl) rfl ?_
  refine aw_sub [2, 3, 4, 5, 6, 1, 0] rfl ?_
  exact A_X6_isAlone_c6 hok hl n x1 x2 x3 x4 0 0 hf
abbrev mX6_isFull : aM := (yX6_isFull, cX6_isFull, 7, some .boolean, [])
theorem nX6_isFull : aNoMH yX6_isFull 4 := by decide +kernel
def S_X6_isFull (n : Nat) (x1 : Int32) (x2 : Int32) (x3 : Int32) (x4 : Int32) (st : MSt) : Option (Int32) :=
  onm (st.2.1 0 1) fun v1 =>
  onm ((st.2.1 0 0) - v1) fun v2 =>
  if x4 = v1 then
    (S_X6_others n x1 x2 x3 v1 1 st).bind fun q10 =>
    if q10 < v2 then
      some 0
    else
      some 1
  else
    ob (x1 + x3) 750 fun j4 =>
    (S_X6_has (st.2.1 5 j4) v1).bind fun q6 =>
    if q6 = 0 then
      some 0
    else
      (S_X6_others n x1 x2 x3 v1 0 st).bind fun q8 =>
      if (q8 + (1 : Int32)) = v2 then
        some 1
      else
        some 0
set_option maxHeartbeats 2000000 in
theorem C_X6_isFull {l : Launch} {G : aG} {ad : Nat → Nat} {h0 : aH} (hok : mOk ad) (hl : l.stackTraces = false) {n : Nat} {x1 : Int32} {x2 : Int32} {x3 : Int32} {x4 : Int32} {st : MSt} {r : Int32} (hf : S_X6_isFull n x1 x2 x3 x4 st = some r) : aC l G mX6_isFull (ws_ yX6_isFull cX6_isFull 7 (some .boolean)) 2 0 0 [.ref (ad 13), .int x1, .int x2, .int x3, .int x4] (mh ad st h0) (aP1 (some (.int r)) (mh ad st h0)) := by
  refine aC_of (M := mX6_isFull) rfl (by decide) (Nat.le_of_ble_eq_true rfl) hl ?_
  rw [S_X6_isFull] at hf
  refine aw_eqv (lv2 := [(0, .ref (ad 13)), (1, .int x1), (2, .int x2), (3, .int x3), (4, .int x4)]) rfl rfl rfl rfl ?_
  refine aw_aload_n 0 dX6_isFull_0 rfl rfl ?_
  refine aw_get (v := .ref (ad 0)) (mg_o hok) rfl in_X6 0 (by decide) q1739 (Or.inl rfl) rfl dX6_isFull_1 ?_
  refine aw_iconst (v := 1) dX6_isFull_4 (by decide) ?_
  refine aw_ialdj (j := 1) (mg_0 hok) (vpc (by decide)) (by decide) dX6_isFull_5 ?_
  refine aw_topi (fun v1 ev1 => ?_)
  have hf := onm_a ev1 hf
  refine aw_istore (lv' := [(5, .int v1), (0, .ref (ad 13)), (1, .int x1), (2, .int x2), (3, .int x3), (4, .int x4)]) dX6_isFull_6 (Nat.le_of_ble_eq_true rfl) rfl ?_
  refine aw_aload_n 1 dX6_isFull_8 rfl rfl ?_
  refine aw_get (v := .ref (ad 0)) (mg_o hok) rfl in_X6 0 (by decide) q1739 (Or.inl rfl) rfl dX6_isFull_9 ?_
  refine aw_iconst (v := 0) dX6_isFull_12 (by decide) ?_
  refine aw_ialdj (j := 0) (mg_0 hok) (vpc (by decide)) (by decide) dX6_isFull_13 ?_
  refine aw_iload 0 dX6_isFull_14 rfl ?_
  refine aw_isub dX6_isFull_16 ?_
  refine aw_topi (fun v2 ev2 => ?_)
  have hf := onm_a ev2 hf
  refine aw_istore (lv' := [(6, .int v2), (5, .int v1), (0, .ref (ad 13)), (1, .int x1), (2, .int x2), (3, .int x3), (4, .int x4)]) dX6_isFull_17 (Nat.le_of_ble_eq_true rfl) rfl ?_
  refine aw_iload 6 dX6_isFull_19 rfl ?_
  refine aw_iload 1 dX6_isFull_21 rfl ?_
  refine aw_icmp_ne 47 dX6_isFull_23 (by decide) (fun c3 => ?_) (fun c3 => ?_)
  · have hf := it_f c3 hf
    refine aw_aload_n 2 dX6_isFull_47 rfl rfl ?_
    refine aw_get (v := .ref (ad 5)) (mg_o hok) rfl in_X6 15 (by decide) q1754 (Or.inl rfl) rfl dX6_isFull_48 ?_
    refine aw_iload_n 3 dX6_isFull_51 rfl rfl ?_
    refine aw_iload_n 5 dX6_isFull_52 rfl rfl ?_
    refine aw_iadd dX6_isFull_53 ?_
    obtain ⟨j4, z5, ej4, hf⟩ := ob_s hf
    refine aw_ialdj (mg_5 hok) z5 ej4 dX6_isFull_54 ?_
    refine aw_iload 1 dX6_isFull_55 rfl ?_
    obtain ⟨q6, eq6, hf⟩ := Option.bind_eq_some_iff.mp hf
    refine aw_callS (rest := []) (C_X6_has hl eq6) nX6_has q1903 q1904 q137 q1905 dX6_isFull_57 rfl (by decide) (by decide) (Nat.le_of_ble_eq_true rfl) (Nat.le_refl _) (Nat.le_refl _) (aP1_i ?_) aP1_x
    refine aw_if_eq 84 dX6_isFull_60 (by decide) (fun c7 => ?_) (fun c7 => ?_)
    · have hf := it_t c7 hf
      refine aw_iconst (v := 0) dX6_isFull_84 (by decide) ?_
      cases hf
      exact aw_zret rfl rfl dX6_isFull_85 aP1_rfl (Nat.le_refl _) (Nat.le_refl _)
    · have hf := it_f c7 hf
      refine aw_aload_n 2 dX6_isFull_63 rfl rfl ?_
      refine aw_iload_n 3 dX6_isFull_64 rfl rfl ?_
      refine aw_iload_n 4 dX6_isFull_65 rfl rfl ?_
      refine aw_iload_n 5 dX6_isFull_66 rfl rfl ?_
      refine aw_iload 1 dX6_isFull_67 rfl ?_
      refine aw_iconst (v := 0) dX6_isFull_69 (by decide) ?_
      obtain ⟨q8, eq8, hf⟩ := Option.bind_eq_some_iff.mp hf
      refine aw_callV (rest := []) (C_X6_others hok hl eq8) (mg_o hok) rfl rfl nX6_others q2086 q2088 qs88 q137 q2089 dX6_isFull_70 rfl (by decide) (by decide) (Nat.le_of_ble_eq_true rfl) (Nat.le_refl _) (Nat.le_refl _) (aP1_i ?_) aP1_x
      refine aw_iconst (v := 1) dX6_isFull_73 (by decide) ?_
      refine aw_iadd dX6_isFull_74 ?_
      refine aw_iload 0 dX6_isFull_75 rfl ?_
      refine aw_icmp_ne 84 dX6_isFull_77 (by decide) (fun c9 => ?_) (fun c9 => ?_)
      · have hf := it_f c9 hf
        refine aw_iconst (v := 0) dX6_isFull_84 (by decide) ?_
        cases hf
        exact aw_zret rfl rfl dX6_isFull_85 aP1_rfl (Nat.le_refl _) (Nat.le_refl _)
      · have hf := it_t c9 hf
        refine aw_iconst (v := 1) dX6_isFull_80 (by decide) ?_
        refine aw_goto 85 dX6_isFull_81 (by decide) ?_
        cases hf
        exact aw_zret rfl rfl dX6_isFull_85 aP1_rfl (Nat.le_refl _) (Nat.le_refl _)
  · have hf := it_t c3 hf
    refine aw_aload_n 2 dX6_isFull_26 rfl rfl ?_
    refine aw_iload_n 3 dX6_isFull_27 rfl rfl ?_
    refine aw_iload_n 4 dX6_isFull_28 rfl rfl ?_
    refine aw_iload_n 5 dX6_isFull_29 rfl rfl ?_
    refine aw_iload 1 dX6_isFull_30 rfl ?_
    refine aw_iconst (v := 1) dX6_isFull_32 (by decide) ?_
    obtain ⟨q10, eq10, hf⟩ := Option.bind_eq_some_iff.mp hf
    refine aw_callV (rest := []) (C_X6_others hok hl eq10) (mg_o hok) rfl rfl nX6_others q2086 q2088 qs88 q137 q2089 dX6_isFull_33 rfl (by decide) (by decide) (Nat.le_of_ble_eq_true rfl) (Nat.le_refl _) (Nat.le_refl _) (aP1_i ?_) aP1_x
    refine aw_iload 0 dX6_isFull_36 rfl ?_
    refine aw_icmp_lt 45 dX6_isFull_38 (by decide) (fun c11 => ?_) (fun c11 => ?_)
    · have hf := it_t c11 hf
      refine aw_iconst (v := 0) dX6_isFull_45 (by decide) ?_
      cases hf
      exact aw_zret rfl rfl dX6_isFull_46 aP1_rfl (Nat.le_refl _) (Nat.le_refl _)
    · have hf := it_f c11 hf
      refine aw_iconst (v := 1) dX6_isFull_41 (by decide) ?_
      refine aw_goto 46 dX6_isFull_42 (by decide) ?_
      cases hf
      exact aw_zret rfl rfl dX6_isFull_46 aP1_rfl (Nat.le_refl _) (Nat.le_refl _)
abbrev mX6_placesWith : aM := (yX6_placesWith, cX6_placesWith, 6, some .int, [])
theorem nX6_placesWith : aNoMH yX6_placesWith 3 := by decide +kernel
def S_X6_placesWith_c6 (st : MSt) : Nat → Int32 → Int32 → Int32 → Int32 → Int32 → Option (Int32)
  | 0, _, _, _, _, _ => none
  | n + 1, x1, x2, x3, x4, x5 =>
    if (st.2.1 0 0) ≤ x5 then
      some x4
    else
      (S_X6_cellAt x2 x5 st).bind fun q2 =>
      ob (x1 + q2) 750 fun j3 =>
      (S_X6_has (st.2.1 5 j3) x3).bind fun q5 =>
      if q5 = 0 then
        onm (x4 ||| (0 : Int32)) fun v7 =>
        S_X6_placesWith_c6 st n x1 x2 x3 v7 (x5 + 1)
      else
        onm (x4 ||| ((1 : Int32) <<< (x5 &&& 31))) fun v8 =>
        S_X6_placesWith_c6 st n x1 x2 x3 v8 (x5 + 1)
set_option maxHeartbeats 2000000 in
theorem A_X6_placesWith_c6 {l : Launch} {G : aG} {ad : Nat → Nat} {h0 : aH} (hok : mOk ad) (hl : l.stackTraces = false) {r : Int32} {st : MSt} : ∀ (n : Nat) (x1 : Int32) (x2 : Int32) (x3 : Int32) (x4 : Int32) (x5 : Int32), S_X6_placesWith_c6 st n x1 x2 x3 x4 x5 = some r → AW l G mX6_placesWith 1 0 0 (aP1 (some (.int r)) (mh ad st h0)) 6 [(0, .ref (ad 13)), (1, .int x1), (2, .int x2), (3, .int x3), (4, .int x4), (5, .int x5)] [] (mh ad st h0) 0 0 := by
  intro n
  induction n with
  | zero =>
    intro x1 x2 x3 x4 x5 hf
    rw [S_X6_placesWith_c6] at hf
    cases hf
  | succ n ih =>
    intro x1 x2 x3 x4 x5 hf
    rw [S_X6_placesWith_c6] at hf
    refine aw_iload 5 dX6_placesWith_6 rfl ?_
    refine aw_aload_n 0 dX6_placesWith_8 rfl rfl ?_
    refine aw_get (v := .ref (ad 0)) (mg_o hok) rfl in_X6 0 (by decide) q1739 (Or.inl rfl) rfl dX6_placesWith_9 ?_
    refine aw_iconst (v := 0) dX6_placesWith_12 (by decide) ?_
    refine aw_ialdj (j := 0) (mg_0 hok) (vpc (by decide)) (by decide) dX6_placesWith_13 ?_
    refine aw_icmp_ge 57 dX6_placesWith_14 (by decide) (fun c1 => ?_) (fun c1 => ?_)
    · have hf := it_t c1 hf
      refine aw_iload 4 dX6_placesWith_57 rfl ?_
      cases hf
      exact aw_iret rfl dX6_placesWith_59 aP1_rfl (Nat.le_refl _) (Nat.le_refl _)
    · have hf := it_f c1 hf
      refine aw_iload 4 dX6_placesWith_17 rfl ?_
      refine aw_aload_n 0 dX6_placesWith_19 rfl rfl ?_
      refine aw_get (v := .ref (ad 5)) (mg_o hok) rfl in_X6 15 (by decide) q1754 (Or.inl rfl) rfl dX6_placesWith_20 ?_
      refine aw_iload_n 1 dX6_placesWith_23 rfl rfl ?_
      refine aw_aload_n 0 dX6_placesWith_24 rfl rfl ?_
      refine aw_iload_n 2 dX6_placesWith_25 rfl rfl ?_
      refine aw_iload 5 dX6_placesWith_26 rfl ?_
      obtain ⟨q2, eq2, hf⟩ := Option.bind_eq_some_iff.mp hf
      refine aw_callV (rest := [.int x1, .ref (ad 5), .int x4]) (C_X6_cellAt hok hl eq2) (mg_o hok) rfl rfl nX6_cellAt q1892 q1894 qs67 q137 q1895 dX6_placesWith_28 rfl (by decide) (by decide) (Nat.le_of_ble_eq_true rfl) (Nat.le_refl _) (Nat.le_refl _) (aP1_i ?_) aP1_x
      refine aw_iadd dX6_placesWith_31 ?_
      obtain ⟨j3, z4, ej3, hf⟩ := ob_s hf
      refine aw_ialdj (mg_5 hok) z4 ej3 dX6_placesWith_32 ?_
      refine aw_iload_n 3 dX6_placesWith_33 rfl rfl ?_
      obtain ⟨q5, eq5, hf⟩ := Option.bind_eq_some_iff.mp hf
      refine aw_callS (rest := [.int x4]) (C_X6_has hl eq5) nX6_has q1903 q1904 q137 q1905 dX6_placesWith_34 rfl (by decide) (by decide) (Nat.le_of_ble_eq_true rfl) (Nat.le_refl _) (Nat.le_refl _) (aP1_i ?_) aP1_x
      refine aw_if_eq 47 dX6_placesWith_37 (by decide) (fun c6 => ?_) (fun c6 => ?_)
      · have hf := it_t c6 hf
        refine aw_iconst (v := 0) dX6_placesWith_47 (by decide) ?_
        refine aw_ior dX6_placesWith_48 ?_
        refine aw_topi (fun v7 ev7 => ?_)
        have hf := onm_a ev7 hf
        refine aw_istore (lv' := [(4, .int v7), (0, .ref (ad 13)), (1, .int x1), (2, .int x2), (3, .int x3), (5, .int x5)]) dX6_placesWith_49 (Nat.le_of_ble_eq_true rfl) rfl ?_
        refine aw_iinc 5 (v := x5 + 1) (lv' := [(5, .int (x5 + 1)), (4, .int v7), (0, .ref (ad 13)), (1, .int x1), (2, .int x2), (3, .int x3)]) dX6_placesWith_51 rfl rfl (Nat.le_of_ble_eq_true rfl) rfl ?_
        refine aw_goto 6 dX6_placesWith_54 (by decide) ?_
        refine aw_sub [2, 3, 4, 5, 1, 0] rfl ?_
        exact ih x1 x2 x3 v7 (x5 + 1) hf
      · have hf := it_f c6 hf
        refine aw_iconst (v := 1) dX6_placesWith_40 (by decide) ?_
        refine aw_iload 5 dX6_placesWith_41 rfl ?_
        refine aw_ishl dX6_placesWith_43 ?_
        refine aw_goto 48 dX6_placesWith_44 (by decide) ?_
        refine aw_ior dX6_placesWith_48 ?_
        refine aw_topi (fun v8 ev8 => ?_)
        have hf := onm_a ev8 hf
        refine aw_istore (lv' := [(4, .int v8), (0, .ref (ad 13)), (1, .int x1), (2, .int x2), (3, .int x3), (5, .int x5)]) dX6_placesWith_49 (Nat.le_of_ble_eq_true rfl) rfl ?_
        refine aw_iinc 5 (v := x5 + 1) (lv' := [(5, .int (x5 + 1)), (4, .int v8), (0, .ref (ad 13)), (1, .int x1), (2, .int x2), (3, .int x3)]) dX6_placesWith_51 rfl rfl (Nat.le_of_ble_eq_true rfl) rfl ?_
        refine aw_goto 6 dX6_placesWith_54 (by decide) ?_
        refine aw_sub [2, 3, 4, 5, 1, 0] rfl ?_
        exact ih x1 x2 x3 v8 (x5 + 1) hf
def S_X6_placesWith (n : Nat) (x1 : Int32) (x2 : Int32) (x3 : Int32) (st : MSt) : Option (Int32) :=
  S_X6_placesWith_c6 st n x1 x2 x3 0 0
set_option maxHeartbeats 2000000 in
theorem C_X6_placesWith {l : Launch} {G : aG} {ad : Nat → Nat} {h0 : aH} (hok : mOk ad) (hl : l.stackTraces = false) {n : Nat} {x1 : Int32} {x2 : Int32} {x3 : Int32} {st : MSt} {r : Int32} (hf : S_X6_placesWith n x1 x2 x3 st = some r) : aC l G mX6_placesWith (ws_ yX6_placesWith cX6_placesWith 6 (some .int)) 1 0 0 [.ref (ad 13), .int x1, .int x2, .int x3] (mh ad st h0) (aP1 (some (.int r)) (mh ad st h0)) := by
  refine aC_of (M := mX6_placesWith) rfl (by decide) (Nat.le_of_ble_eq_true rfl) hl ?_
  rw [S_X6_placesWith] at hf
  refine aw_eqv (lv2 := [(0, .ref (ad 13)), (1, .int x1), (2, .int x2), (3, .int x3)]) rfl rfl rfl rfl ?_
  refine aw_iconst (v := 0) dX6_placesWith_0 (by decide) ?_
  refine aw_istore (lv' := [(4, .int 0), (0, .ref (ad 13)), (1, .int x1), (2, .int x2), (3, .int x3)]) dX6_placesWith_1 (Nat.le_of_ble_eq_true rfl) rfl ?_
  refine aw_iconst (v := 0) dX6_placesWith_3 (by decide) ?_
  refine aw_istore (lv' := [(5, .int 0), (4, .int 0), (0, .ref (ad 13)), (1, .int x1), (2, .int x2), (3, .int x3)]) dX6_placesWith_4 (Nat.le_of_ble_eq_true rfl) rfl ?_
  refine aw_sub [2, 3, 4, 5, 1, 0] rfl ?_
  exact A_X6_placesWith_c6 hok hl n x1 x2 x3 0 0 hf
abbrev mX6_placeIn : aM := (yX6_placeIn, cX6_placeIn, 3, some .int, [])
theorem nX6_placeIn : aNoMH yX6_placeIn 2 := by decide +kernel
def S_X6_placeIn (x1 : Int32) (x2 : Int32) (st : MSt) : Option (Int32) :=
  if (st.2.1 0 0) ≤ x1 then
    odz (st.2.1 0 0) <|
    some (x2 / (st.2.1 0 0))
  else
    odz (st.2.1 0 0) <|
    some (x2 - x2 / (st.2.1 0 0) * (st.2.1 0 0))
set_option maxHeartbeats 2000000 in
theorem C_X6_placeIn {l : Launch} {G : aG} {ad : Nat → Nat} {h0 : aH} (hok : mOk ad) (hl : l.stackTraces = false) {x1 : Int32} {x2 : Int32} {st : MSt} {r : Int32} (hf : S_X6_placeIn x1 x2 st = some r) : aC l G mX6_placeIn (ws_ yX6_placeIn cX6_placeIn 3 (some .int)) 0 0 0 [.ref (ad 13), .int x1, .int x2] (mh ad st h0) (aP1 (some (.int r)) (mh ad st h0)) := by
  refine aC_of (M := mX6_placeIn) rfl (by decide) (Nat.le_of_ble_eq_true rfl) hl ?_
  rw [S_X6_placeIn] at hf
  refine aw_eqv (lv2 := [(0, .ref (ad 13)), (1, .int x1), (2, .int x2)]) rfl rfl rfl rfl ?_
  refine aw_iload_n 1 dX6_placeIn_0 rfl rfl ?_
  refine aw_aload_n 0 dX6_placeIn_1 rfl rfl ?_
  refine aw_get (v := .ref (ad 0)) (mg_o hok) rfl in_X6 0 (by decide) q1739 (Or.inl rfl) rfl dX6_placeIn_2 ?_
  refine aw_iconst (v := 0) dX6_placeIn_5 (by decide) ?_
  refine aw_ialdj (j := 0) (mg_0 hok) (vpc (by decide)) (by decide) dX6_placeIn_6 ?_
  refine aw_icmp_ge 21 dX6_placeIn_7 (by decide) (fun c1 => ?_) (fun c1 => ?_)
  · have hf := it_t c1 hf
    refine aw_iload_n 2 dX6_placeIn_21 rfl rfl ?_
    refine aw_aload_n 0 dX6_placeIn_22 rfl rfl ?_
    refine aw_get (v := .ref (ad 0)) (mg_o hok) rfl in_X6 0 (by decide) q1739 (Or.inl rfl) rfl dX6_placeIn_23 ?_
    refine aw_iconst (v := 0) dX6_placeIn_26 (by decide) ?_
    refine aw_ialdj (j := 0) (mg_0 hok) (vpc (by decide)) (by decide) dX6_placeIn_27 ?_
    obtain ⟨z2, hf⟩ := odz_s hf
    refine aw_idiv dX6_placeIn_28 z2 ?_
    cases hf
    exact aw_iret rfl dX6_placeIn_29 aP1_rfl (Nat.le_refl _) (Nat.le_refl _)
  · have hf := it_f c1 hf
    refine aw_iload_n 2 dX6_placeIn_10 rfl rfl ?_
    refine aw_aload_n 0 dX6_placeIn_11 rfl rfl ?_
    refine aw_get (v := .ref (ad 0)) (mg_o hok) rfl in_X6 0 (by decide) q1739 (Or.inl rfl) rfl dX6_placeIn_12 ?_
    refine aw_iconst (v := 0) dX6_placeIn_15 (by decide) ?_
    refine aw_ialdj (j := 0) (mg_0 hok) (vpc (by decide)) (by decide) dX6_placeIn_16 ?_
    obtain ⟨z3, hf⟩ := odz_s hf
    refine aw_irem dX6_placeIn_17 z3 ?_
    refine aw_goto 29 dX6_placeIn_18 (by decide) ?_
    cases hf
    exact aw_iret rfl dX6_placeIn_29 aP1_rfl (Nat.le_refl _) (Nat.le_refl _)
abbrev mX6_isPaired : aM := (yX6_isPaired, cX6_isPaired, 9, some .boolean, [])
theorem nX6_isPaired : aNoMH yX6_isPaired 4 := by decide +kernel
def S_X6_isPaired_j103 (K23 : Int32 → Int32 → Int32 → Int32 → Int32 → Int32 → Int32 → Option (Int32)) (st : MSt) (n : Nat) (x1 : Int32) (x2 : Int32) (x3 : Int32) (x4 : Int32) (x6 : Int32) (x7 : Int32) : Option (Int32) :=
  K23 x1 x2 x3 x4 0 x6 (x7 + 1)
set_option maxHeartbeats 2000000 in
theorem A_X6_isPaired_j103 {l : Launch} {G : aG} {ad : Nat → Nat} {h0 : aH} (hok : mOk ad) (hl : l.stackTraces = false) {r : Int32} {st : MSt} {K23 : Int32 → Int32 → Int32 → Int32 → Int32 → Int32 → Int32 → Option (Int32)} (hK23 : ∀ (w1 : Int32) (w2 : Int32) (w3 : Int32) (w4 : Int32) (w5 : Int32) (w6 : Int32) (w7 : Int32), K23 w1 w2 w3 w4 w5 w6 w7 = some r → AW l G mX6_isPaired 2 0 0 (aP1 (some (.int r)) (mh ad st h0)) 23 [(0, .ref (ad 13)), (1, .int w1), (2, .int w2), (3, .int w3), (4, .int w4), (5, .int w5), (6, .int w6), (7, .int w7)] [] (mh ad st h0) 0 0) : ∀ (n : Nat) (x1 : Int32) (x2 : Int32) (x3 : Int32) (x4 : Int32) (x6 : Int32) (x7 : Int32), S_X6_isPaired_j103 K23 st n x1 x2 x3 x4 x6 x7 = some r → AW l G mX6_isPaired 2 0 0 (aP1 (some (.int r)) (mh ad st h0)) 103 [(0, .ref (ad 13)), (1, .int x1), (2, .int x2), (3, .int x3), (4, .int x4), (6, .int x6), (7, .int x7)] [] (mh ad st h0) 0 0 := by
  intro n x1 x2 x3 x4 x6 x7 hf
  rw [S_X6_isPaired_j103] at hf
  refine aw_iconst (v := 0) dX6_isPaired_103 (by decide) ?_
  refine aw_istore (lv' := [(5, .int 0), (0, .ref (ad 13)), (1, .int x1), (2, .int x2), (3, .int x3), (4, .int x4), (6, .int x6), (7, .int x7)]) dX6_isPaired_104 (Nat.le_of_ble_eq_true rfl) rfl ?_
  refine aw_iinc 7 (v := x7 + 1) (lv' := [(7, .int (x7 + 1)), (5, .int 0), (0, .ref (ad 13)), (1, .int x1), (2, .int x2), (3, .int x3), (4, .int x4), (6, .int x6)]) dX6_isPaired_106 rfl rfl (Nat.le_of_ble_eq_true rfl) rfl ?_
  refine aw_goto 23 dX6_isPaired_109 (by decide) ?_
  refine aw_sub [2, 3, 4, 5, 6, 1, 7, 0] rfl ?_
  exact hK23 x1 x2 x3 x4 0 x6 (x7 + 1) hf
def S_X6_isPaired_c23 (K112 : Int32 → Int32 → Int32 → Int32 → Int32 → Int32 → Option (Int32)) (st : MSt) : Nat → Int32 → Int32 → Int32 → Int32 → Int32 → Int32 → Int32 → Option (Int32)
  | 0, _, _, _, _, _, _, _ => none
  | n + 1, x1, x2, x3, x4, x5, x6, x7 =>
    if (st.2.1 0 1) ≤ x7 then
      K112 x1 x2 x3 x4 x5 x6
    else
      (S_X6_placesWith n x1 x2 x6 st).bind fun q5 =>
      if x5 = 0 then
        if x4 = x6 then
          S_X6_isPaired_j103 (S_X6_isPaired_c23 K112 st n) st n x1 x2 x3 x4 x6 x7
        else
          if x4 = x7 then
            S_X6_isPaired_j103 (S_X6_isPaired_c23 K112 st n) st n x1 x2 x3 x4 x6 x7
          else
            (S_X6_placesWith n x1 x2 x7 st).bind fun q9 =>
            if q5 = q9 then
              (S_X6_many n q5).bind fun q11 =>
              if q11 = 2 then
                (S_X6_placeIn x2 x3 st).bind fun q13 =>
                (S_X6_has q5 q13).bind fun q14 =>
                if q14 = 0 then
                  S_X6_isPaired_j103 (S_X6_isPaired_c23 K112 st n) st n x1 x2 x3 x4 x6 x7
                else
                  S_X6_isPaired_c23 K112 st n x1 x2 x3 x4 1 x6 (x7 + 1)
              else
                S_X6_isPaired_j103 (S_X6_isPaired_c23 K112 st n) st n x1 x2 x3 x4 x6 x7
            else
              S_X6_isPaired_j103 (S_X6_isPaired_c23 K112 st n) st n x1 x2 x3 x4 x6 x7
      else
        S_X6_isPaired_c23 K112 st n x1 x2 x3 x4 1 x6 (x7 + 1)
set_option maxHeartbeats 2000000 in
theorem A_X6_isPaired_c23 {l : Launch} {G : aG} {ad : Nat → Nat} {h0 : aH} (hok : mOk ad) (hl : l.stackTraces = false) {r : Int32} {st : MSt} {K112 : Int32 → Int32 → Int32 → Int32 → Int32 → Int32 → Option (Int32)} (hK112 : ∀ (w1 : Int32) (w2 : Int32) (w3 : Int32) (w4 : Int32) (w5 : Int32) (w6 : Int32), K112 w1 w2 w3 w4 w5 w6 = some r → AW l G mX6_isPaired 2 0 0 (aP1 (some (.int r)) (mh ad st h0)) 112 [(0, .ref (ad 13)), (1, .int w1), (2, .int w2), (3, .int w3), (4, .int w4), (5, .int w5), (6, .int w6)] [] (mh ad st h0) 0 0) : ∀ (n : Nat) (x1 : Int32) (x2 : Int32) (x3 : Int32) (x4 : Int32) (x5 : Int32) (x6 : Int32) (x7 : Int32), S_X6_isPaired_c23 K112 st n x1 x2 x3 x4 x5 x6 x7 = some r → AW l G mX6_isPaired 2 0 0 (aP1 (some (.int r)) (mh ad st h0)) 23 [(0, .ref (ad 13)), (1, .int x1), (2, .int x2), (3, .int x3), (4, .int x4), (5, .int x5), (6, .int x6), (7, .int x7)] [] (mh ad st h0) 0 0 := by
  intro n
  induction n with
  | zero =>
    intro x1 x2 x3 x4 x5 x6 x7 hf
    rw [S_X6_isPaired_c23] at hf
    cases hf
  | succ n ih =>
    intro x1 x2 x3 x4 x5 x6 x7 hf
    rw [S_X6_isPaired_c23] at hf
    refine aw_iload 7 dX6_isPaired_23 rfl ?_
    refine aw_aload_n 0 dX6_isPaired_25 rfl rfl ?_
    refine aw_get (v := .ref (ad 0)) (mg_o hok) rfl in_X6 0 (by decide) q1739 (Or.inl rfl) rfl dX6_isPaired_26 ?_
    refine aw_iconst (v := 1) dX6_isPaired_29 (by decide) ?_
    refine aw_ialdj (j := 1) (mg_0 hok) (vpc (by decide)) (by decide) dX6_isPaired_30 ?_
    refine aw_icmp_ge 112 dX6_isPaired_31 (by decide) (fun c4 => ?_) (fun c4 => ?_)
    · have hf := it_t c4 hf
      refine aw_sub [0, 1, 2, 3, 4, 5, 6] rfl ?_
      exact hK112 x1 x2 x3 x4 x5 x6 hf
    · have hf := it_f c4 hf
      refine aw_aload_n 0 dX6_isPaired_34 rfl rfl ?_
      refine aw_iload_n 1 dX6_isPaired_35 rfl rfl ?_
      refine aw_iload_n 2 dX6_isPaired_36 rfl rfl ?_
      refine aw_iload 6 dX6_isPaired_37 rfl ?_
      obtain ⟨q5, eq5, hf⟩ := Option.bind_eq_some_iff.mp hf
      refine aw_callV (rest := []) (C_X6_placesWith hok hl eq5) (mg_o hok) rfl rfl nX6_placesWith q2102 q2104 qs92 q137 q2105 dX6_isPaired_39 rfl (by decide) (by decide) (Nat.le_of_ble_eq_true rfl) (Nat.le_refl _) (Nat.le_refl _) (aP1_i ?_) aP1_x
      refine aw_istore (lv' := [(8, .int q5), (0, .ref (ad 13)), (1, .int x1), (2, .int x2), (3, .int x3), (4, .int x4), (5, .int x5), (6, .int x6), (7, .int x7)]) dX6_isPaired_42 (Nat.le_of_ble_eq_true rfl) rfl ?_
      refine aw_iload 6 dX6_isPaired_44 rfl ?_
      refine aw_if_ne 99 dX6_isPaired_46 (by decide) (fun c6 => ?_) (fun c6 => ?_)
      · have hf := it_f c6 hf
        refine aw_iconst (v := 1) dX6_isPaired_99 (by decide) ?_
        refine aw_goto 104 dX6_isPaired_100 (by decide) ?_
        refine aw_istore (lv' := [(5, .int 1), (8, .int q5), (0, .ref (ad 13)), (1, .int x1), (2, .int x2), (3, .int x3), (4, .int x4), (6, .int x6), (7, .int x7)]) dX6_isPaired_104 (Nat.le_of_ble_eq_true rfl) rfl ?_
        refine aw_iinc 8 (v := x7 + 1) (lv' := [(7, .int (x7 + 1)), (5, .int 1), (8, .int q5), (0, .ref (ad 13)), (1, .int x1), (2, .int x2), (3, .int x3), (4, .int x4), (6, .int x6)]) dX6_isPaired_106 rfl rfl (Nat.le_of_ble_eq_true rfl) rfl ?_
        refine aw_goto 23 dX6_isPaired_109 (by decide) ?_
        refine aw_sub [3, 4, 5, 6, 7, 1, 8, 0] rfl ?_
        exact ih x1 x2 x3 x4 1 x6 (x7 + 1) hf
      · have hf := it_t c6 hf
        refine aw_iload 5 dX6_isPaired_49 rfl ?_
        refine aw_iload 7 dX6_isPaired_51 rfl ?_
        refine aw_icmp_eq 103 dX6_isPaired_53 (by decide) (fun c7 => ?_) (fun c7 => ?_)
        · have hf := it_t c7 hf
          refine aw_sub [1, 2, 3, 4, 5, 7, 8] rfl ?_
          exact A_X6_isPaired_j103 hok hl (fun w1 w2 w3 w4 w5 w6 w7 hf => ih w1 w2 w3 w4 w5 w6 w7 hf) n x1 x2 x3 x4 x6 x7 hf
        · have hf := it_f c7 hf
          refine aw_iload 5 dX6_isPaired_56 rfl ?_
          refine aw_iload 8 dX6_isPaired_58 rfl ?_
          refine aw_icmp_eq 103 dX6_isPaired_60 (by decide) (fun c8 => ?_) (fun c8 => ?_)
          · have hf := it_t c8 hf
            refine aw_sub [1, 2, 3, 4, 5, 7, 8] rfl ?_
            exact A_X6_isPaired_j103 hok hl (fun w1 w2 w3 w4 w5 w6 w7 hf => ih w1 w2 w3 w4 w5 w6 w7 hf) n x1 x2 x3 x4 x6 x7 hf
          · have hf := it_f c8 hf
            refine aw_iload 0 dX6_isPaired_63 rfl ?_
            refine aw_aload_n 1 dX6_isPaired_65 rfl rfl ?_
            refine aw_iload_n 2 dX6_isPaired_66 rfl rfl ?_
            refine aw_iload_n 3 dX6_isPaired_67 rfl rfl ?_
            refine aw_iload 8 dX6_isPaired_68 rfl ?_
            obtain ⟨q9, eq9, hf⟩ := Option.bind_eq_some_iff.mp hf
            refine aw_callV (rest := [.int q5]) (C_X6_placesWith hok hl eq9) (mg_o hok) rfl rfl nX6_placesWith q2102 q2104 qs92 q137 q2105 dX6_isPaired_70 rfl (by decide) (by decide) (Nat.le_of_ble_eq_true rfl) (Nat.le_refl _) (Nat.le_refl _) (aP1_i ?_) aP1_x
            refine aw_icmp_ne 103 dX6_isPaired_73 (by decide) (fun c10 => ?_) (fun c10 => ?_)
            · have hf := it_f c10 hf
              refine aw_sub [1, 2, 3, 4, 5, 7, 8] rfl ?_
              exact A_X6_isPaired_j103 hok hl (fun w1 w2 w3 w4 w5 w6 w7 hf => ih w1 w2 w3 w4 w5 w6 w7 hf) n x1 x2 x3 x4 x6 x7 hf
            · have hf := it_t c10 hf
              refine aw_iload 0 dX6_isPaired_76 rfl ?_
              obtain ⟨q11, eq11, hf⟩ := Option.bind_eq_some_iff.mp hf
              refine aw_callS (rest := []) (C_X6_many hl eq11) nX6_many q1998 q1999 q137 q2000 dX6_isPaired_78 rfl (by decide) (by decide) (Nat.le_of_ble_eq_true rfl) (Nat.le_refl _) (Nat.le_refl _) (aP1_i ?_) aP1_x
              refine aw_iconst (v := 2) dX6_isPaired_81 (by decide) ?_
              refine aw_icmp_ne 103 dX6_isPaired_82 (by decide) (fun c12 => ?_) (fun c12 => ?_)
              · have hf := it_f c12 hf
                refine aw_sub [1, 2, 3, 4, 5, 7, 8] rfl ?_
                exact A_X6_isPaired_j103 hok hl (fun w1 w2 w3 w4 w5 w6 w7 hf => ih w1 w2 w3 w4 w5 w6 w7 hf) n x1 x2 x3 x4 x6 x7 hf
              · have hf := it_t c12 hf
                refine aw_iload 0 dX6_isPaired_85 rfl ?_
                refine aw_aload_n 1 dX6_isPaired_87 rfl rfl ?_
                refine aw_iload_n 3 dX6_isPaired_88 rfl rfl ?_
                refine aw_iload_n 4 dX6_isPaired_89 rfl rfl ?_
                obtain ⟨q13, eq13, hf⟩ := Option.bind_eq_some_iff.mp hf
                refine aw_callV (rest := [.int q5]) (C_X6_placeIn hok hl eq13) (mg_o hok) rfl rfl nX6_placeIn q2106 q2108 qs93 q137 q2109 dX6_isPaired_90 rfl (by decide) (by decide) (Nat.le_of_ble_eq_true rfl) (Nat.le_refl _) (Nat.le_refl _) (aP1_i ?_) aP1_x
                obtain ⟨q14, eq14, hf⟩ := Option.bind_eq_some_iff.mp hf
                refine aw_callS (rest := []) (C_X6_has hl eq14) nX6_has q1903 q1904 q137 q1905 dX6_isPaired_93 rfl (by decide) (by decide) (Nat.le_of_ble_eq_true rfl) (Nat.le_refl _) (Nat.le_refl _) (aP1_i ?_) aP1_x
                refine aw_if_eq 103 dX6_isPaired_96 (by decide) (fun c15 => ?_) (fun c15 => ?_)
                · have hf := it_t c15 hf
                  refine aw_sub [1, 2, 3, 4, 5, 7, 8] rfl ?_
                  exact A_X6_isPaired_j103 hok hl (fun w1 w2 w3 w4 w5 w6 w7 hf => ih w1 w2 w3 w4 w5 w6 w7 hf) n x1 x2 x3 x4 x6 x7 hf
                · have hf := it_f c15 hf
                  refine aw_iconst (v := 1) dX6_isPaired_99 (by decide) ?_
                  refine aw_goto 104 dX6_isPaired_100 (by decide) ?_
                  refine aw_istore (lv' := [(5, .int 1), (8, .int q5), (0, .ref (ad 13)), (1, .int x1), (2, .int x2), (3, .int x3), (4, .int x4), (6, .int x6), (7, .int x7)]) dX6_isPaired_104 (Nat.le_of_ble_eq_true rfl) rfl ?_
                  refine aw_iinc 8 (v := x7 + 1) (lv' := [(7, .int (x7 + 1)), (5, .int 1), (8, .int q5), (0, .ref (ad 13)), (1, .int x1), (2, .int x2), (3, .int x3), (4, .int x4), (6, .int x6)]) dX6_isPaired_106 rfl rfl (Nat.le_of_ble_eq_true rfl) rfl ?_
                  refine aw_goto 23 dX6_isPaired_109 (by decide) ?_
                  refine aw_sub [3, 4, 5, 6, 7, 1, 8, 0] rfl ?_
                  exact ih x1 x2 x3 x4 1 x6 (x7 + 1) hf
def S_X6_isPaired_c6 (st : MSt) : Nat → Int32 → Int32 → Int32 → Int32 → Int32 → Int32 → Option (Int32)
  | 0, _, _, _, _, _, _ => none
  | n + 1, x1, x2, x3, x4, x5, x6 =>
    if (st.2.1 0 1) ≤ x6 then
      onr .boolean x5 <|
      some x5
    else
      onm (x6 + (1 : Int32)) fun v3 =>
      S_X6_isPaired_c23
        (fun y4_1 y4_2 y4_3 y4_4 y4_5 y4_6 => 
            S_X6_isPaired_c6 st n y4_1 y4_2 y4_3 y4_4 y4_5 (y4_6 + 1))
         st n x1 x2 x3 x4 x5 x6 v3
set_option maxHeartbeats 2000000 in
theorem A_X6_isPaired_c6 {l : Launch} {G : aG} {ad : Nat → Nat} {h0 : aH} (hok : mOk ad) (hl : l.stackTraces = false) {r : Int32} {st : MSt} : ∀ (n : Nat) (x1 : Int32) (x2 : Int32) (x3 : Int32) (x4 : Int32) (x5 : Int32) (x6 : Int32), S_X6_isPaired_c6 st n x1 x2 x3 x4 x5 x6 = some r → AW l G mX6_isPaired 2 0 0 (aP1 (some (.int r)) (mh ad st h0)) 6 [(0, .ref (ad 13)), (1, .int x1), (2, .int x2), (3, .int x3), (4, .int x4), (5, .int x5), (6, .int x6)] [] (mh ad st h0) 0 0 := by
  intro n
  induction n with
  | zero =>
    intro x1 x2 x3 x4 x5 x6 hf
    rw [S_X6_isPaired_c6] at hf
    cases hf
  | succ n ih =>
    intro x1 x2 x3 x4 x5 x6 hf
    rw [S_X6_isPaired_c6] at hf
    refine aw_iload 6 dX6_isPaired_6 rfl ?_
    refine aw_aload_n 0 dX6_isPaired_8 rfl rfl ?_
    refine aw_get (v := .ref (ad 0)) (mg_o hok) rfl in_X6 0 (by decide) q1739 (Or.inl rfl) rfl dX6_isPaired_9 ?_
    refine aw_iconst (v := 1) dX6_isPaired_12 (by decide) ?_
    refine aw_ialdj (j := 1) (mg_0 hok) (vpc (by decide)) (by decide) dX6_isPaired_13 ?_
    refine aw_icmp_ge 118 dX6_isPaired_14 (by decide) (fun c1 => ?_) (fun c1 => ?_)
    · have hf := it_t c1 hf
      refine aw_iload 5 dX6_isPaired_118 rfl ?_
      obtain ⟨z2, hf⟩ := onr_s hf
      cases hf
      exact aw_zret rfl z2 dX6_isPaired_120 aP1_rfl (Nat.le_refl _) (Nat.le_refl _)
    · have hf := it_f c1 hf
      refine aw_iload 6 dX6_isPaired_17 rfl ?_
      refine aw_iconst (v := 1) dX6_isPaired_19 (by decide) ?_
      refine aw_iadd dX6_isPaired_20 ?_
      refine aw_topi (fun v3 ev3 => ?_)
      have hf := onm_a ev3 hf
      refine aw_istore (lv' := [(7, .int v3), (0, .ref (ad 13)), (1, .int x1), (2, .int x2), (3, .int x3), (4, .int x4), (5, .int x5), (6, .int x6)]) dX6_isPaired_21 (Nat.le_of_ble_eq_true rfl) rfl ?_
      refine aw_sub [1, 2, 3, 4, 5, 6, 7, 0] rfl ?_
      refine A_X6_isPaired_c23 hok hl ?_ n x1 x2 x3 x4 x5 x6 v3 hf
      · intro y4_1 y4_2 y4_3 y4_4 y4_5 y4_6 hf
        refine aw_iinc 6 (v := y4_6 + 1) (lv' := [(6, .int (y4_6 + 1)), (0, .ref (ad 13)), (1, .int y4_1), (2, .int y4_2), (3, .int y4_3), (4, .int y4_4), (5, .int y4_5)]) dX6_isPaired_112 rfl rfl (Nat.le_of_ble_eq_true rfl) rfl ?_
        refine aw_goto 6 dX6_isPaired_115 (by decide) ?_
        refine aw_sub [1, 2, 3, 4, 5, 6, 0] rfl ?_
        exact ih y4_1 y4_2 y4_3 y4_4 y4_5 (y4_6 + 1) hf
def S_X6_isPaired (n : Nat) (x1 : Int32) (x2 : Int32) (x3 : Int32) (x4 : Int32) (st : MSt) : Option (Int32) :=
  S_X6_isPaired_c6 st n x1 x2 x3 x4 0 0
set_option maxHeartbeats 2000000 in
theorem C_X6_isPaired {l : Launch} {G : aG} {ad : Nat → Nat} {h0 : aH} (hok : mOk ad) (hl : l.stackTraces = false) {n : Nat} {x1 : Int32} {x2 : Int32} {x3 : Int32} {x4 : Int32} {st : MSt} {r : Int32} (hf : S_X6_isPaired n x1 x2 x3 x4 st = some r) : aC l G mX6_isPaired (ws_ yX6_isPaired cX6_isPaired 9 (some .boolean)) 2 0 0 [.ref (ad 13), .int x1, .int x2, .int x3, .int x4] (mh ad st h0) (aP1 (some (.int r)) (mh ad st h0)) := by
  refine aC_of (M := mX6_isPaired) rfl (by decide) (Nat.le_of_ble_eq_true rfl) hl ?_
  rw [S_X6_isPaired] at hf
  refine aw_eqv (lv2 := [(0, .ref (ad 13)), (1, .int x1), (2, .int x2), (3, .int x3), (4, .int x4)]) rfl rfl rfl rfl ?_
  refine aw_iconst (v := 0) dX6_isPaired_0 (by decide) ?_
  refine aw_istore (lv' := [(5, .int 0), (0, .ref (ad 13)), (1, .int x1), (2, .int x2), (3, .int x3), (4, .int x4)]) dX6_isPaired_1 (Nat.le_of_ble_eq_true rfl) rfl ?_
  refine aw_iconst (v := 0) dX6_isPaired_3 (by decide) ?_
  refine aw_istore (lv' := [(6, .int 0), (5, .int 0), (0, .ref (ad 13)), (1, .int x1), (2, .int x2), (3, .int x3), (4, .int x4)]) dX6_isPaired_4 (Nat.le_of_ble_eq_true rfl) rfl ?_
  refine aw_sub [2, 3, 4, 5, 6, 1, 0] rfl ?_
  exact A_X6_isPaired_c6 hok hl n x1 x2 x3 x4 0 0 hf
abbrev mX6_holds : aM := (yX6_holds, cX6_holds, 8, some .boolean, [])
theorem nX6_holds : aNoMH yX6_holds 4 := by decide +kernel
def S_X6_holds_c13 (st : MSt) : Nat → Int32 → Int32 → Int32 → Int32 → Int32 → Int32 → Int32 → Option (Int32)
  | 0, _, _, _, _, _, _, _ => none
  | n + 1, x1, x2, x3, x4, x5, x6, x7 =>
    (S_X6_lines st).bind fun q2 =>
    if q2 ≤ x7 then
      onr .boolean x5 <|
      some x5
    else
      if x5 = 0 then
        (S_X6_has x6 x7).bind fun q7 =>
        if q7 = 0 then
          S_X6_holds_c13 st n x1 x2 x3 x4 x5 x6 (x7 + 1)
        else
          if x1 = 1 then
            if (st.2.1 0 1) ≤ x4 then
              S_X6_holds_c13 st n x1 x2 x3 x4 0 x6 (x7 + 1)
            else
              (S_X6_others n x2 x7 x3 x4 1 st).bind fun q10 =>
              if q10 ≤ 0 then
                S_X6_holds_c13 st n x1 x2 x3 x4 0 x6 (x7 + 1)
              else
                S_X6_holds_c13 st n x1 x2 x3 x4 1 x6 (x7 + 1)
          else
            if x1 = 2 then
              (S_X6_isAlone n x2 x7 x3 x4 st).bind fun q13 =>
              S_X6_holds_c13 st n x1 x2 x3 x4 q13 x6 (x7 + 1)
            else
              if x1 = 3 then
                (S_X6_isFull n x2 x7 x3 x4 st).bind fun q15 =>
                S_X6_holds_c13 st n x1 x2 x3 x4 q15 x6 (x7 + 1)
              else
                if x1 = 4 then
                  (S_X6_isPaired n x2 x7 x3 x4 st).bind fun q17 =>
                  S_X6_holds_c13 st n x1 x2 x3 x4 q17 x6 (x7 + 1)
                else
                  (S_X6_placeIn x7 x3 st).bind fun q19 =>
                  ob (((5 : Int32) * x7) + q19) 60 fun j20 =>
                  (S_X6_has (st.2.1 7 j20) x4).bind fun q22 =>
                  if q22 = 0 then
                    S_X6_holds_c13 st n x1 x2 x3 x4 1 x6 (x7 + 1)
                  else
                    S_X6_holds_c13 st n x1 x2 x3 x4 0 x6 (x7 + 1)
      else
        onr .boolean x5 <|
        some x5
set_option maxHeartbeats 2000000 in
theorem A_X6_holds_c13 {l : Launch} {G : aG} {ad : Nat → Nat} {h0 : aH} (hok : mOk ad) (hl : l.stackTraces = false) {r : Int32} {st : MSt} : ∀ (n : Nat) (x1 : Int32) (x2 : Int32) (x3 : Int32) (x4 : Int32) (x5 : Int32) (x6 : Int32) (x7 : Int32), S_X6_holds_c13 st n x1 x2 x3 x4 x5 x6 x7 = some r → AW l G mX6_holds 3 0 0 (aP1 (some (.int r)) (mh ad st h0)) 13 [(0, .ref (ad 13)), (1, .int x1), (2, .int x2), (3, .int x3), (4, .int x4), (5, .int x5), (6, .int x6), (7, .int x7)] [] (mh ad st h0) 0 0 := by
  intro n
  induction n with
  | zero =>
    intro x1 x2 x3 x4 x5 x6 x7 hf
    rw [S_X6_holds_c13] at hf
    cases hf
  | succ n ih =>
    intro x1 x2 x3 x4 x5 x6 x7 hf
    rw [S_X6_holds_c13] at hf
    refine aw_iload 7 dX6_holds_13 rfl ?_
    refine aw_aload_n 0 dX6_holds_15 rfl rfl ?_
    obtain ⟨q2, eq2, hf⟩ := Option.bind_eq_some_iff.mp hf
    refine aw_callV (rest := [.int x7]) (C_X6_lines hok hl eq2) (mg_o hok) rfl rfl nX6_lines q1930 q1932 qs70 q137 q1933 dX6_holds_16 rfl (by decide) (by decide) (Nat.le_of_ble_eq_true rfl) (Nat.le_refl _) (Nat.le_refl _) (aP1_i ?_) aP1_x
    refine aw_icmp_ge 186 dX6_holds_19 (by decide) (fun c3 => ?_) (fun c3 => ?_)
    · have hf := it_t c3 hf
      refine aw_iload 5 dX6_holds_186 rfl ?_
      obtain ⟨z4, hf⟩ := onr_s hf
      cases hf
      exact aw_zret rfl z4 dX6_holds_188 aP1_rfl (Nat.le_refl _) (Nat.le_refl _)
    · have hf := it_f c3 hf
      refine aw_iload 5 dX6_holds_22 rfl ?_
      refine aw_if_ne 186 dX6_holds_24 (by decide) (fun c5 => ?_) (fun c5 => ?_)
      · have hf := it_f c5 hf
        refine aw_iload 5 dX6_holds_186 rfl ?_
        obtain ⟨z6, hf⟩ := onr_s hf
        cases hf
        exact aw_zret rfl z6 dX6_holds_188 aP1_rfl (Nat.le_refl _) (Nat.le_refl _)
      · have hf := it_t c5 hf
        refine aw_iload 6 dX6_holds_27 rfl ?_
        refine aw_iload 7 dX6_holds_29 rfl ?_
        obtain ⟨q7, eq7, hf⟩ := Option.bind_eq_some_iff.mp hf
        refine aw_callS (rest := []) (C_X6_has hl eq7) nX6_has q1903 q1904 q137 q1905 dX6_holds_31 rfl (by decide) (by decide) (Nat.le_of_ble_eq_true rfl) (Nat.le_refl _) (Nat.le_refl _) (aP1_i ?_) aP1_x
        refine aw_if_eq 180 dX6_holds_34 (by decide) (fun c8 => ?_) (fun c8 => ?_)
        · have hf := it_t c8 hf
          refine aw_iinc 7 (v := x7 + 1) (lv' := [(7, .int (x7 + 1)), (0, .ref (ad 13)), (1, .int x1), (2, .int x2), (3, .int x3), (4, .int x4), (5, .int x5), (6, .int x6)]) dX6_holds_180 rfl rfl (Nat.le_of_ble_eq_true rfl) rfl ?_
          refine aw_goto 13 dX6_holds_183 (by decide) ?_
          refine aw_sub [1, 2, 3, 4, 5, 6, 7, 0] rfl ?_
          exact ih x1 x2 x3 x4 x5 x6 (x7 + 1) hf
        · have hf := it_f c8 hf
          refine aw_iload_n 1 dX6_holds_37 rfl rfl ?_
          by_cases c12 : x1 = 1
          · have hf := it_t c12 hf
            have ex : (x1).toInt = 1 := by rw [c12]; decide
            refine aw_tableIn 68 dX6_holds_38 (by rw [ex]; decide) (by rw [ex]; decide) (by rw [ex]; rfl) (by decide) ?_
            refine aw_iload 4 dX6_holds_68 rfl ?_
            refine aw_aload_n 0 dX6_holds_70 rfl rfl ?_
            refine aw_get (v := .ref (ad 0)) (mg_o hok) rfl in_X6 0 (by decide) q1739 (Or.inl rfl) rfl dX6_holds_71 ?_
            refine aw_iconst (v := 1) dX6_holds_74 (by decide) ?_
            refine aw_ialdj (j := 1) (mg_0 hok) (vpc (by decide)) (by decide) dX6_holds_75 ?_
            refine aw_icmp_ge 97 dX6_holds_76 (by decide) (fun c9 => ?_) (fun c9 => ?_)
            · have hf := it_t c9 hf
              refine aw_iconst (v := 0) dX6_holds_97 (by decide) ?_
              refine aw_istore (lv' := [(5, .int 0), (0, .ref (ad 13)), (1, .int x1), (2, .int x2), (3, .int x3), (4, .int x4), (6, .int x6), (7, .int x7)]) dX6_holds_98 (Nat.le_of_ble_eq_true rfl) rfl ?_
              refine aw_goto 180 dX6_holds_100 (by decide) ?_
              refine aw_iinc 7 (v := x7 + 1) (lv' := [(7, .int (x7 + 1)), (5, .int 0), (0, .ref (ad 13)), (1, .int x1), (2, .int x2), (3, .int x3), (4, .int x4), (6, .int x6)]) dX6_holds_180 rfl rfl (Nat.le_of_ble_eq_true rfl) rfl ?_
              refine aw_goto 13 dX6_holds_183 (by decide) ?_
              refine aw_sub [2, 3, 4, 5, 6, 1, 7, 0] rfl ?_
              exact ih x1 x2 x3 x4 0 x6 (x7 + 1) hf
            · have hf := it_f c9 hf
              refine aw_aload_n 0 dX6_holds_79 rfl rfl ?_
              refine aw_iload_n 2 dX6_holds_80 rfl rfl ?_
              refine aw_iload 7 dX6_holds_81 rfl ?_
              refine aw_iload_n 3 dX6_holds_83 rfl rfl ?_
              refine aw_iload 4 dX6_holds_84 rfl ?_
              refine aw_iconst (v := 1) dX6_holds_86 (by decide) ?_
              obtain ⟨q10, eq10, hf⟩ := Option.bind_eq_some_iff.mp hf
              refine aw_callV (rest := []) (C_X6_others hok hl eq10) (mg_o hok) rfl rfl nX6_others q2086 q2088 qs88 q137 q2089 dX6_holds_87 rfl (by decide) (by decide) (Nat.le_of_ble_eq_true rfl) (Nat.le_refl _) (Nat.le_refl _) (aP1_i ?_) aP1_x
              refine aw_if_le 97 dX6_holds_90 (by decide) (fun c11 => ?_) (fun c11 => ?_)
              · have hf := it_t c11 hf
                refine aw_iconst (v := 0) dX6_holds_97 (by decide) ?_
                refine aw_istore (lv' := [(5, .int 0), (0, .ref (ad 13)), (1, .int x1), (2, .int x2), (3, .int x3), (4, .int x4), (6, .int x6), (7, .int x7)]) dX6_holds_98 (Nat.le_of_ble_eq_true rfl) rfl ?_
                refine aw_goto 180 dX6_holds_100 (by decide) ?_
                refine aw_iinc 7 (v := x7 + 1) (lv' := [(7, .int (x7 + 1)), (5, .int 0), (0, .ref (ad 13)), (1, .int x1), (2, .int x2), (3, .int x3), (4, .int x4), (6, .int x6)]) dX6_holds_180 rfl rfl (Nat.le_of_ble_eq_true rfl) rfl ?_
                refine aw_goto 13 dX6_holds_183 (by decide) ?_
                refine aw_sub [2, 3, 4, 5, 6, 1, 7, 0] rfl ?_
                exact ih x1 x2 x3 x4 0 x6 (x7 + 1) hf
              · have hf := it_f c11 hf
                refine aw_iconst (v := 1) dX6_holds_93 (by decide) ?_
                refine aw_goto 98 dX6_holds_94 (by decide) ?_
                refine aw_istore (lv' := [(5, .int 1), (0, .ref (ad 13)), (1, .int x1), (2, .int x2), (3, .int x3), (4, .int x4), (6, .int x6), (7, .int x7)]) dX6_holds_98 (Nat.le_of_ble_eq_true rfl) rfl ?_
                refine aw_goto 180 dX6_holds_100 (by decide) ?_
                refine aw_iinc 7 (v := x7 + 1) (lv' := [(7, .int (x7 + 1)), (5, .int 1), (0, .ref (ad 13)), (1, .int x1), (2, .int x2), (3, .int x3), (4, .int x4), (6, .int x6)]) dX6_holds_180 rfl rfl (Nat.le_of_ble_eq_true rfl) rfl ?_
                refine aw_goto 13 dX6_holds_183 (by decide) ?_
                refine aw_sub [2, 3, 4, 5, 6, 1, 7, 0] rfl ?_
                exact ih x1 x2 x3 x4 1 x6 (x7 + 1) hf
          have hf := it_f c12 hf
          by_cases c14 : x1 = 2
          · have hf := it_t c14 hf
            have ex : (x1).toInt = 2 := by rw [c14]; decide
            refine aw_tableIn 103 dX6_holds_38 (by rw [ex]; decide) (by rw [ex]; decide) (by rw [ex]; rfl) (by decide) ?_
            refine aw_aload_n 0 dX6_holds_103 rfl rfl ?_
            refine aw_iload_n 2 dX6_holds_104 rfl rfl ?_
            refine aw_iload 7 dX6_holds_105 rfl ?_
            refine aw_iload_n 3 dX6_holds_107 rfl rfl ?_
            refine aw_iload 4 dX6_holds_108 rfl ?_
            obtain ⟨q13, eq13, hf⟩ := Option.bind_eq_some_iff.mp hf
            refine aw_callV (rest := []) (C_X6_isAlone hok hl eq13) (mg_o hok) rfl rfl nX6_isAlone q2090 q2092 qs89 q137 q2093 dX6_holds_110 rfl (by decide) (by decide) (Nat.le_of_ble_eq_true rfl) (Nat.le_refl _) (Nat.le_refl _) (aP1_i ?_) aP1_x
            refine aw_istore (lv' := [(5, .int q13), (0, .ref (ad 13)), (1, .int x1), (2, .int x2), (3, .int x3), (4, .int x4), (6, .int x6), (7, .int x7)]) dX6_holds_113 (Nat.le_of_ble_eq_true rfl) rfl ?_
            refine aw_goto 180 dX6_holds_115 (by decide) ?_
            refine aw_iinc 7 (v := x7 + 1) (lv' := [(7, .int (x7 + 1)), (5, .int q13), (0, .ref (ad 13)), (1, .int x1), (2, .int x2), (3, .int x3), (4, .int x4), (6, .int x6)]) dX6_holds_180 rfl rfl (Nat.le_of_ble_eq_true rfl) rfl ?_
            refine aw_goto 13 dX6_holds_183 (by decide) ?_
            refine aw_sub [2, 3, 4, 5, 6, 1, 7, 0] rfl ?_
            exact ih x1 x2 x3 x4 q13 x6 (x7 + 1) hf
          have hf := it_f c14 hf
          by_cases c16 : x1 = 3
          · have hf := it_t c16 hf
            have ex : (x1).toInt = 3 := by rw [c16]; decide
            refine aw_tableIn 118 dX6_holds_38 (by rw [ex]; decide) (by rw [ex]; decide) (by rw [ex]; rfl) (by decide) ?_
            refine aw_aload_n 0 dX6_holds_118 rfl rfl ?_
            refine aw_iload_n 2 dX6_holds_119 rfl rfl ?_
            refine aw_iload 7 dX6_holds_120 rfl ?_
            refine aw_iload_n 3 dX6_holds_122 rfl rfl ?_
            refine aw_iload 4 dX6_holds_123 rfl ?_
            obtain ⟨q15, eq15, hf⟩ := Option.bind_eq_some_iff.mp hf
            refine aw_callV (rest := []) (C_X6_isFull hok hl eq15) (mg_o hok) rfl rfl nX6_isFull q2094 q2096 qs90 q137 q2097 dX6_holds_125 rfl (by decide) (by decide) (Nat.le_of_ble_eq_true rfl) (Nat.le_refl _) (Nat.le_refl _) (aP1_i ?_) aP1_x
            refine aw_istore (lv' := [(5, .int q15), (0, .ref (ad 13)), (1, .int x1), (2, .int x2), (3, .int x3), (4, .int x4), (6, .int x6), (7, .int x7)]) dX6_holds_128 (Nat.le_of_ble_eq_true rfl) rfl ?_
            refine aw_goto 180 dX6_holds_130 (by decide) ?_
            refine aw_iinc 7 (v := x7 + 1) (lv' := [(7, .int (x7 + 1)), (5, .int q15), (0, .ref (ad 13)), (1, .int x1), (2, .int x2), (3, .int x3), (4, .int x4), (6, .int x6)]) dX6_holds_180 rfl rfl (Nat.le_of_ble_eq_true rfl) rfl ?_
            refine aw_goto 13 dX6_holds_183 (by decide) ?_
            refine aw_sub [2, 3, 4, 5, 6, 1, 7, 0] rfl ?_
            exact ih x1 x2 x3 x4 q15 x6 (x7 + 1) hf
          have hf := it_f c16 hf
          by_cases c18 : x1 = 4
          · have hf := it_t c18 hf
            have ex : (x1).toInt = 4 := by rw [c18]; decide
            refine aw_tableIn 133 dX6_holds_38 (by rw [ex]; decide) (by rw [ex]; decide) (by rw [ex]; rfl) (by decide) ?_
            refine aw_aload_n 0 dX6_holds_133 rfl rfl ?_
            refine aw_iload_n 2 dX6_holds_134 rfl rfl ?_
            refine aw_iload 7 dX6_holds_135 rfl ?_
            refine aw_iload_n 3 dX6_holds_137 rfl rfl ?_
            refine aw_iload 4 dX6_holds_138 rfl ?_
            obtain ⟨q17, eq17, hf⟩ := Option.bind_eq_some_iff.mp hf
            refine aw_callV (rest := []) (C_X6_isPaired hok hl eq17) (mg_o hok) rfl rfl nX6_isPaired q2098 q2100 qs91 q137 q2101 dX6_holds_140 rfl (by decide) (by decide) (Nat.le_of_ble_eq_true rfl) (Nat.le_refl _) (Nat.le_refl _) (aP1_i ?_) aP1_x
            refine aw_istore (lv' := [(5, .int q17), (0, .ref (ad 13)), (1, .int x1), (2, .int x2), (3, .int x3), (4, .int x4), (6, .int x6), (7, .int x7)]) dX6_holds_143 (Nat.le_of_ble_eq_true rfl) rfl ?_
            refine aw_goto 180 dX6_holds_145 (by decide) ?_
            refine aw_iinc 7 (v := x7 + 1) (lv' := [(7, .int (x7 + 1)), (5, .int q17), (0, .ref (ad 13)), (1, .int x1), (2, .int x2), (3, .int x3), (4, .int x4), (6, .int x6)]) dX6_holds_180 rfl rfl (Nat.le_of_ble_eq_true rfl) rfl ?_
            refine aw_goto 13 dX6_holds_183 (by decide) ?_
            refine aw_sub [2, 3, 4, 5, 6, 1, 7, 0] rfl ?_
            exact ih x1 x2 x3 x4 q17 x6 (x7 + 1) hf
          have hf := it_f c18 hf
          refine aw_tableOut 148 dX6_holds_38 (by have ec12 := lv_neT (a := 1) c12 (by decide); have ec14 := lv_neT (a := 2) c14 (by decide); have ec16 := lv_neT (a := 3) c16 (by decide); have ec18 := lv_neT (a := 4) c18 (by decide); omega) (by decide) ?_
          refine aw_aload_n 0 dX6_holds_148 rfl rfl ?_
          refine aw_get (v := .ref (ad 7)) (mg_o hok) rfl in_X6 17 (by decide) q1756 (Or.inl rfl) rfl dX6_holds_149 ?_
          refine aw_iconst (v := 5) dX6_holds_152 (by decide) ?_
          refine aw_iload 7 dX6_holds_153 rfl ?_
          refine aw_imul dX6_holds_155 ?_
          refine aw_aload_n 0 dX6_holds_156 rfl rfl ?_
          refine aw_iload 7 dX6_holds_157 rfl ?_
          refine aw_iload_n 3 dX6_holds_159 rfl rfl ?_
          obtain ⟨q19, eq19, hf⟩ := Option.bind_eq_some_iff.mp hf
          refine aw_callV (rest := [.int ((5 : Int32) * x7), .ref (ad 7)]) (C_X6_placeIn hok hl eq19) (mg_o hok) rfl rfl nX6_placeIn q2106 q2108 qs93 q137 q2109 dX6_holds_160 rfl (by decide) (by decide) (Nat.le_of_ble_eq_true rfl) (Nat.le_refl _) (Nat.le_refl _) (aP1_i ?_) aP1_x
          refine aw_iadd dX6_holds_163 ?_
          obtain ⟨j20, z21, ej20, hf⟩ := ob_s hf
          refine aw_ialdj (mg_7 hok) z21 ej20 dX6_holds_164 ?_
          refine aw_iload 4 dX6_holds_165 rfl ?_
          obtain ⟨q22, eq22, hf⟩ := Option.bind_eq_some_iff.mp hf
          refine aw_callS (rest := []) (C_X6_has hl eq22) nX6_has q1903 q1904 q137 q1905 dX6_holds_167 rfl (by decide) (by decide) (Nat.le_of_ble_eq_true rfl) (Nat.le_refl _) (Nat.le_refl _) (aP1_i ?_) aP1_x
          refine aw_if_ne 177 dX6_holds_170 (by decide) (fun c23 => ?_) (fun c23 => ?_)
          · have hf := it_f c23 hf
            refine aw_iconst (v := 0) dX6_holds_177 (by decide) ?_
            refine aw_istore (lv' := [(5, .int 0), (0, .ref (ad 13)), (1, .int x1), (2, .int x2), (3, .int x3), (4, .int x4), (6, .int x6), (7, .int x7)]) dX6_holds_178 (Nat.le_of_ble_eq_true rfl) rfl ?_
            refine aw_iinc 7 (v := x7 + 1) (lv' := [(7, .int (x7 + 1)), (5, .int 0), (0, .ref (ad 13)), (1, .int x1), (2, .int x2), (3, .int x3), (4, .int x4), (6, .int x6)]) dX6_holds_180 rfl rfl (Nat.le_of_ble_eq_true rfl) rfl ?_
            refine aw_goto 13 dX6_holds_183 (by decide) ?_
            refine aw_sub [2, 3, 4, 5, 6, 1, 7, 0] rfl ?_
            exact ih x1 x2 x3 x4 0 x6 (x7 + 1) hf
          · have hf := it_t c23 hf
            refine aw_iconst (v := 1) dX6_holds_173 (by decide) ?_
            refine aw_goto 178 dX6_holds_174 (by decide) ?_
            refine aw_istore (lv' := [(5, .int 1), (0, .ref (ad 13)), (1, .int x1), (2, .int x2), (3, .int x3), (4, .int x4), (6, .int x6), (7, .int x7)]) dX6_holds_178 (Nat.le_of_ble_eq_true rfl) rfl ?_
            refine aw_iinc 7 (v := x7 + 1) (lv' := [(7, .int (x7 + 1)), (5, .int 1), (0, .ref (ad 13)), (1, .int x1), (2, .int x2), (3, .int x3), (4, .int x4), (6, .int x6)]) dX6_holds_180 rfl rfl (Nat.le_of_ble_eq_true rfl) rfl ?_
            refine aw_goto 13 dX6_holds_183 (by decide) ?_
            refine aw_sub [2, 3, 4, 5, 6, 1, 7, 0] rfl ?_
            exact ih x1 x2 x3 x4 1 x6 (x7 + 1) hf
def S_X6_holds (n : Nat) (x1 : Int32) (x2 : Int32) (x3 : Int32) (x4 : Int32) (st : MSt) : Option (Int32) :=
  (S_X6_linesOf x3 st).bind fun q1 =>
  S_X6_holds_c13 st n x1 x2 x3 x4 0 q1 0
set_option maxHeartbeats 2000000 in
theorem C_X6_holds {l : Launch} {G : aG} {ad : Nat → Nat} {h0 : aH} (hok : mOk ad) (hl : l.stackTraces = false) {n : Nat} {x1 : Int32} {x2 : Int32} {x3 : Int32} {x4 : Int32} {st : MSt} {r : Int32} (hf : S_X6_holds n x1 x2 x3 x4 st = some r) : aC l G mX6_holds (ws_ yX6_holds cX6_holds 8 (some .boolean)) 3 0 0 [.ref (ad 13), .int x1, .int x2, .int x3, .int x4] (mh ad st h0) (aP1 (some (.int r)) (mh ad st h0)) := by
  refine aC_of (M := mX6_holds) rfl (by decide) (Nat.le_of_ble_eq_true rfl) hl ?_
  rw [S_X6_holds] at hf
  refine aw_eqv (lv2 := [(0, .ref (ad 13)), (1, .int x1), (2, .int x2), (3, .int x3), (4, .int x4)]) rfl rfl rfl rfl ?_
  refine aw_iconst (v := 0) dX6_holds_0 (by decide) ?_
  refine aw_istore (lv' := [(5, .int 0), (0, .ref (ad 13)), (1, .int x1), (2, .int x2), (3, .int x3), (4, .int x4)]) dX6_holds_1 (Nat.le_of_ble_eq_true rfl) rfl ?_
  refine aw_aload_n 1 dX6_holds_3 rfl rfl ?_
  refine aw_iload_n 4 dX6_holds_4 rfl rfl ?_
  obtain ⟨q1, eq1, hf⟩ := Option.bind_eq_some_iff.mp hf
  refine aw_callV (rest := []) (C_X6_linesOf hok hl eq1) (mg_o hok) rfl rfl nX6_linesOf q2082 q2084 qs87 q137 q2085 dX6_holds_5 rfl (by decide) (by decide) (Nat.le_of_ble_eq_true rfl) (Nat.le_refl _) (Nat.le_refl _) (aP1_i ?_) aP1_x
  refine aw_istore (lv' := [(6, .int q1), (5, .int 0), (0, .ref (ad 13)), (1, .int x1), (2, .int x2), (3, .int x3), (4, .int x4)]) dX6_holds_8 (Nat.le_of_ble_eq_true rfl) rfl ?_
  refine aw_iconst (v := 0) dX6_holds_10 (by decide) ?_
  refine aw_istore (lv' := [(7, .int 0), (6, .int q1), (5, .int 0), (0, .ref (ad 13)), (1, .int x1), (2, .int x2), (3, .int x3), (4, .int x4)]) dX6_holds_11 (Nat.le_of_ble_eq_true rfl) rfl ?_
  refine aw_sub [3, 4, 5, 6, 7, 2, 1, 0] rfl ?_
  exact A_X6_holds_c13 hok hl n x1 x2 x3 x4 0 q1 0 hf
abbrev mX6_allLines : aM := (yX6_allLines, cX6_allLines, 1, some .int, [])
theorem nX6_allLines : aNoMH yX6_allLines 0 := by decide +kernel
def S_X6_allLines (st : MSt) : Option (Int32) :=
  (S_X6_lines st).bind fun q1 =>
  some (((1 : Int32) <<< (q1 &&& 31)) - (1 : Int32))
set_option maxHeartbeats 2000000 in
theorem C_X6_allLines {l : Launch} {G : aG} {ad : Nat → Nat} {h0 : aH} (hok : mOk ad) (hl : l.stackTraces = false) {st : MSt} {r : Int32} (hf : S_X6_allLines st = some r) : aC l G mX6_allLines (ws_ yX6_allLines cX6_allLines 1 (some .int)) 1 0 0 [.ref (ad 13)] (mh ad st h0) (aP1 (some (.int r)) (mh ad st h0)) := by
  refine aC_of (M := mX6_allLines) rfl (by decide) (Nat.le_of_ble_eq_true rfl) hl ?_
  rw [S_X6_allLines] at hf
  refine aw_eqv (lv2 := [(0, .ref (ad 13))]) rfl rfl rfl rfl ?_
  refine aw_iconst (v := 1) dX6_allLines_0 (by decide) ?_
  refine aw_aload_n 0 dX6_allLines_1 rfl rfl ?_
  obtain ⟨q1, eq1, hf⟩ := Option.bind_eq_some_iff.mp hf
  refine aw_callV (rest := [.int 1]) (C_X6_lines hok hl eq1) (mg_o hok) rfl rfl nX6_lines q1930 q1932 qs70 q137 q1933 dX6_allLines_2 rfl (by decide) (by decide) (Nat.le_of_ble_eq_true rfl) (Nat.le_refl _) (Nat.le_refl _) (aP1_i ?_) aP1_x
  refine aw_ishl dX6_allLines_5 ?_
  refine aw_iconst (v := 1) dX6_allLines_6 (by decide) ?_
  refine aw_isub dX6_allLines_7 ?_
  cases hf
  exact aw_iret rfl dX6_allLines_8 aP1_rfl (Nat.le_refl _) (Nat.le_refl _)
abbrev mX6_layers : aM := (yX6_layers, cX6_layers, 4, none, [])
theorem nX6_layers : aNoMH yX6_layers 2 := by decide +kernel
def S_X6_layers_c2 : Nat → Int32 → Int32 → Int32 → MSt → Option (MSt)
  | 0, _, _, _, _ => none
  | n + 1, x1, x2, x3, st =>
    if 25 ≤ x3 then
      some st
    else
      ob (x1 + x3) 750 fun j2 =>
      ob (x2 + x3) 750 fun j4 =>
      onm (mA st 5 j4 (st.2.1 5 j2)) fun u6 =>
      S_X6_layers_c2 n x1 x2 (x3 + 1) u6
set_option maxHeartbeats 2000000 in
theorem A_X6_layers_c2 {l : Launch} {G : aG} {ad : Nat → Nat} {h0 : aH} (hok : mOk ad) (hl : l.stackTraces = false) {r : MSt} : ∀ (n : Nat) (x1 : Int32) (x2 : Int32) (x3 : Int32) (st : MSt), S_X6_layers_c2 n x1 x2 x3 st = some r → AW l G mX6_layers 0 0 0 (aP1 none (mh ad r h0)) 2 [(0, .ref (ad 13)), (1, .int x1), (2, .int x2), (3, .int x3)] [] (mh ad st h0) 0 0 := by
  intro n
  induction n with
  | zero =>
    intro x1 x2 x3 st hf
    rw [S_X6_layers_c2] at hf
    cases hf
  | succ n ih =>
    intro x1 x2 x3 st hf
    rw [S_X6_layers_c2] at hf
    refine aw_iload_n 3 dX6_layers_2 rfl rfl ?_
    refine aw_bipush (v := 25) dX6_layers_3 (by decide) ?_
    refine aw_icmp_ge 30 dX6_layers_5 (by decide) (fun c1 => ?_) (fun c1 => ?_)
    · have hf := it_t c1 hf
      cases hf
      exact aw_vret rfl dX6_layers_30 aP1_rfl (Nat.le_refl _) (Nat.le_refl _)
    · have hf := it_f c1 hf
      refine aw_aload_n 0 dX6_layers_8 rfl rfl ?_
      refine aw_get (v := .ref (ad 5)) (mg_o hok) rfl in_X6 15 (by decide) q1754 (Or.inl rfl) rfl dX6_layers_9 ?_
      refine aw_iload_n 2 dX6_layers_12 rfl rfl ?_
      refine aw_iload_n 3 dX6_layers_13 rfl rfl ?_
      refine aw_iadd dX6_layers_14 ?_
      refine aw_aload_n 0 dX6_layers_15 rfl rfl ?_
      refine aw_get (v := .ref (ad 5)) (mg_o hok) rfl in_X6 15 (by decide) q1754 (Or.inl rfl) rfl dX6_layers_16 ?_
      refine aw_iload_n 1 dX6_layers_19 rfl rfl ?_
      refine aw_iload_n 3 dX6_layers_20 rfl rfl ?_
      refine aw_iadd dX6_layers_21 ?_
      obtain ⟨j2, z3, ej2, hf⟩ := ob_s hf
      refine aw_ialdj (mg_5 hok) z3 ej2 dX6_layers_22 ?_
      obtain ⟨j4, z5, ej4, hf⟩ := ob_s hf
      refine aw_iastj (mg_5 hok) z5 ej4 (mu_5 hok) dX6_layers_23 ?_
      refine aw_st (fun u6 eu6 => ?_)
      have hf := onm_a eu6 hf
      refine aw_iinc 3 (v := x3 + 1) (lv' := [(3, .int (x3 + 1)), (0, .ref (ad 13)), (1, .int x1), (2, .int x2)]) dX6_layers_24 rfl rfl (Nat.le_of_ble_eq_true rfl) rfl ?_
      refine aw_goto 2 dX6_layers_27 (by decide) ?_
      refine aw_sub [1, 2, 3, 0] rfl ?_
      exact ih x1 x2 (x3 + 1) u6 hf
def S_X6_layers (n : Nat) (x1 : Int32) (x2 : Int32) (st : MSt) : Option (MSt) :=
  S_X6_layers_c2 n x1 x2 0 st
set_option maxHeartbeats 2000000 in
theorem C_X6_layers {l : Launch} {G : aG} {ad : Nat → Nat} {h0 : aH} (hok : mOk ad) (hl : l.stackTraces = false) {n : Nat} {x1 : Int32} {x2 : Int32} {st : MSt} {r : MSt} (hf : S_X6_layers n x1 x2 st = some r) : aC l G mX6_layers (ws_ yX6_layers cX6_layers 4 none) 0 0 0 [.ref (ad 13), .int x1, .int x2] (mh ad st h0) (aP1 none (mh ad r h0)) := by
  refine aC_of (M := mX6_layers) rfl (by decide) (Nat.le_of_ble_eq_true rfl) hl ?_
  rw [S_X6_layers] at hf
  refine aw_eqv (lv2 := [(0, .ref (ad 13)), (1, .int x1), (2, .int x2)]) rfl rfl rfl rfl ?_
  refine aw_iconst (v := 0) dX6_layers_0 (by decide) ?_
  refine aw_istore_n (lv' := [(3, .int 0), (0, .ref (ad 13)), (1, .int x1), (2, .int x2)]) dX6_layers_1 rfl (Nat.le_of_ble_eq_true rfl) rfl ?_
  refine aw_sub [1, 2, 3, 0] rfl ?_
  exact A_X6_layers_c2 hok hl n x1 x2 0 st hf
abbrev mX6_closes : aM := (yX6_closes, cX6_closes, 7, some .boolean, [])
theorem nX6_closes : aNoMH yX6_closes 2 := by decide +kernel
def S_X6_closes_c9 (K24 : Int32 → Int32 → Int32 → MSt → Option (Int32 × MSt)) : Nat → Int32 → Int32 → Int32 → MSt → Option (Int32 × MSt)
  | 0, _, _, _, _ => none
  | n + 1, x1, x3, x4, st =>
    if ((x3 >>> (x4 &&& 31)) &&& (1 : Int32)) = 0 then
      S_X6_closes_c9 K24 n x1 x3 (x4 + 1) st
    else
      K24 x1 x3 x4 st
set_option maxHeartbeats 2000000 in
theorem A_X6_closes_c9 {l : Launch} {G : aG} {ad : Nat → Nat} {h0 : aH} (hok : mOk ad) (hl : l.stackTraces = false) {r : Int32 × MSt} {K24 : Int32 → Int32 → Int32 → MSt → Option (Int32 × MSt)} (hK24 : ∀ (w1 : Int32) (w3 : Int32) (w4 : Int32) (st : MSt), K24 w1 w3 w4 st = some r → AW l G mX6_closes 4 0 0 (aP1 (some (.int r.1)) (mh ad r.2 h0)) 24 [(0, .ref (ad 13)), (1, .int w1), (3, .int w3), (4, .int w4)] [] (mh ad st h0) 0 0) : ∀ (n : Nat) (x1 : Int32) (x3 : Int32) (x4 : Int32) (st : MSt), S_X6_closes_c9 K24 n x1 x3 x4 st = some r → AW l G mX6_closes 4 0 0 (aP1 (some (.int r.1)) (mh ad r.2 h0)) 9 [(0, .ref (ad 13)), (1, .int x1), (3, .int x3), (4, .int x4)] [] (mh ad st h0) 0 0 := by
  intro n
  induction n with
  | zero =>
    intro x1 x3 x4 st hf
    rw [S_X6_closes_c9] at hf
    cases hf
  | succ n ih =>
    intro x1 x3 x4 st hf
    rw [S_X6_closes_c9] at hf
    refine aw_iload_n 2 dX6_closes_9 rfl rfl ?_
    refine aw_iload 3 dX6_closes_10 rfl ?_
    refine aw_ishr dX6_closes_12 ?_
    refine aw_iconst (v := 1) dX6_closes_13 (by decide) ?_
    refine aw_iand dX6_closes_14 ?_
    refine aw_if_ne 24 dX6_closes_15 (by decide) (fun c2 => ?_) (fun c2 => ?_)
    · have hf := it_f c2 hf
      exact hK24 x1 x3 x4 st hf
    · have hf := it_t c2 hf
      refine aw_iinc 3 (v := x4 + 1) (lv' := [(4, .int (x4 + 1)), (0, .ref (ad 13)), (1, .int x1), (3, .int x3)]) dX6_closes_18 rfl rfl (Nat.le_of_ble_eq_true rfl) rfl ?_
      refine aw_goto 9 dX6_closes_21 (by decide) ?_
      refine aw_sub [1, 2, 3, 0] rfl ?_
      exact ih x1 x3 (x4 + 1) st hf
def S_X6_closes_c48 (K139 : Int32 → Int32 → MSt → Option (Int32 × MSt)) : Nat → Int32 → Int32 → Int32 → Int32 → MSt → Option (Int32 × MSt)
  | 0, _, _, _, _, _ => none
  | n + 1, x1, x3, x4, x5, st =>
    if (st.2.1 0 0) ≤ x5 then
      K139 x1 x3 st
    else
      (S_X6_cellAt x4 x5 st).bind fun q9 =>
      ob (x1 + q9) 750 fun j10 =>
      ob x5 5 fun j12 =>
      ob (x1 + q9) 750 fun j14 =>
      if ((st.2.1 5 j10) &&& (st.2.1 6 j12)) = (st.2.1 5 j14) then
        S_X6_closes_c48 K139 n x1 x3 x4 (x5 + 1) st
      else
        ob (x1 + q9) 750 fun j17 =>
        ob x5 5 fun j19 =>
        ob (x1 + q9) 750 fun j21 =>
        onm (mA st 5 j21 ((st.2.1 5 j17) &&& (st.2.1 6 j19))) fun u23 =>
        (S_X6_linesOf q9 u23).bind fun q24 =>
        onm (x3 ||| (q24 &&& (((1 : Int32) <<< (x4 &&& 31)) ^^^ ((-1) : Int32)))) fun v25 =>
        S_X6_closes_c48 K139 n x1 v25 x4 (x5 + 1) u23
set_option maxHeartbeats 2000000 in
theorem A_X6_closes_c48 {l : Launch} {G : aG} {ad : Nat → Nat} {h0 : aH} (hok : mOk ad) (hl : l.stackTraces = false) {r : Int32 × MSt} {K139 : Int32 → Int32 → MSt → Option (Int32 × MSt)} (hK139 : ∀ (w1 : Int32) (w3 : Int32) (st : MSt), K139 w1 w3 st = some r → AW l G mX6_closes 4 0 0 (aP1 (some (.int r.1)) (mh ad r.2 h0)) 139 [(0, .ref (ad 13)), (1, .int w1), (3, .int w3)] [] (mh ad st h0) 0 0) : ∀ (n : Nat) (x1 : Int32) (x3 : Int32) (x4 : Int32) (x5 : Int32) (st : MSt), S_X6_closes_c48 K139 n x1 x3 x4 x5 st = some r → AW l G mX6_closes 4 0 0 (aP1 (some (.int r.1)) (mh ad r.2 h0)) 48 [(0, .ref (ad 13)), (1, .int x1), (3, .int x3), (4, .int x4), (5, .int x5)] [] (mh ad st h0) 0 0 := by
  intro n
  induction n with
  | zero =>
    intro x1 x3 x4 x5 st hf
    rw [S_X6_closes_c48] at hf
    cases hf
  | succ n ih =>
    intro x1 x3 x4 x5 st hf
    rw [S_X6_closes_c48] at hf
    refine aw_iload 4 dX6_closes_48 rfl ?_
    refine aw_aload_n 0 dX6_closes_50 rfl rfl ?_
    refine aw_get (v := .ref (ad 0)) (mg_o hok) rfl in_X6 0 (by decide) q1739 (Or.inl rfl) rfl dX6_closes_51 ?_
    refine aw_iconst (v := 0) dX6_closes_54 (by decide) ?_
    refine aw_ialdj (j := 0) (mg_0 hok) (vpc (by decide)) (by decide) dX6_closes_55 ?_
    refine aw_icmp_ge 139 dX6_closes_56 (by decide) (fun c8 => ?_) (fun c8 => ?_)
    · have hf := it_t c8 hf
      refine aw_sub [0, 1, 2] rfl ?_
      exact hK139 x1 x3 st hf
    · have hf := it_f c8 hf
      refine aw_aload_n 0 dX6_closes_59 rfl rfl ?_
      refine aw_iload 3 dX6_closes_60 rfl ?_
      refine aw_iload 4 dX6_closes_62 rfl ?_
      obtain ⟨q9, eq9, hf⟩ := Option.bind_eq_some_iff.mp hf
      refine aw_callV (rest := []) (C_X6_cellAt hok hl eq9) (mg_o hok) rfl rfl nX6_cellAt q1892 q1894 qs67 q137 q1895 dX6_closes_64 rfl (by decide) (by decide) (Nat.le_of_ble_eq_true rfl) (Nat.le_refl _) (Nat.le_refl _) (aP1_i ?_) aP1_x
      refine aw_istore (lv' := [(6, .int q9), (0, .ref (ad 13)), (1, .int x1), (3, .int x3), (4, .int x4), (5, .int x5)]) dX6_closes_67 (Nat.le_of_ble_eq_true rfl) rfl ?_
      refine aw_aload_n 1 dX6_closes_69 rfl rfl ?_
      refine aw_get (v := .ref (ad 5)) (mg_o hok) rfl in_X6 15 (by decide) q1754 (Or.inl rfl) rfl dX6_closes_70 ?_
      refine aw_iload_n 2 dX6_closes_73 rfl rfl ?_
      refine aw_iload 0 dX6_closes_74 rfl ?_
      refine aw_iadd dX6_closes_76 ?_
      obtain ⟨j10, z11, ej10, hf⟩ := ob_s hf
      refine aw_ialdj (mg_5 hok) z11 ej10 dX6_closes_77 ?_
      refine aw_aload_n 1 dX6_closes_78 rfl rfl ?_
      refine aw_get (v := .ref (ad 6)) (mg_o hok) rfl in_X6 16 (by decide) q1755 (Or.inl rfl) rfl dX6_closes_79 ?_
      refine aw_iload 5 dX6_closes_82 rfl ?_
      obtain ⟨j12, z13, ej12, hf⟩ := ob_s hf
      refine aw_ialdj (mg_6 hok) z13 ej12 dX6_closes_84 ?_
      refine aw_iand dX6_closes_85 ?_
      refine aw_aload_n 1 dX6_closes_86 rfl rfl ?_
      refine aw_get (v := .ref (ad 5)) (mg_o hok) rfl in_X6 15 (by decide) q1754 (Or.inl rfl) rfl dX6_closes_87 ?_
      refine aw_iload_n 2 dX6_closes_90 rfl rfl ?_
      refine aw_iload 0 dX6_closes_91 rfl ?_
      refine aw_iadd dX6_closes_93 ?_
      obtain ⟨j14, z15, ej14, hf⟩ := ob_s hf
      refine aw_ialdj (mg_5 hok) z15 ej14 dX6_closes_94 ?_
      refine aw_icmp_eq 133 dX6_closes_95 (by decide) (fun c16 => ?_) (fun c16 => ?_)
      · have hf := it_t c16 hf
        refine aw_iinc 5 (v := x5 + 1) (lv' := [(5, .int (x5 + 1)), (6, .int q9), (0, .ref (ad 13)), (1, .int x1), (3, .int x3), (4, .int x4)]) dX6_closes_133 rfl rfl (Nat.le_of_ble_eq_true rfl) rfl ?_
        refine aw_goto 48 dX6_closes_136 (by decide) ?_
        refine aw_sub [2, 3, 4, 5, 0] rfl ?_
        exact ih x1 x3 x4 (x5 + 1) st hf
      · have hf := it_f c16 hf
        refine aw_aload_n 1 dX6_closes_98 rfl rfl ?_
        refine aw_get (v := .ref (ad 5)) (mg_o hok) rfl in_X6 15 (by decide) q1754 (Or.inl rfl) rfl dX6_closes_99 ?_
        refine aw_iload_n 2 dX6_closes_102 rfl rfl ?_
        refine aw_iload 0 dX6_closes_103 rfl ?_
        refine aw_iadd dX6_closes_105 ?_
        refine aw_dup2_11 dX6_closes_106 rfl rfl ?_
        obtain ⟨j17, z18, ej17, hf⟩ := ob_s hf
        refine aw_ialdj (mg_5 hok) z18 ej17 dX6_closes_107 ?_
        refine aw_aload_n 1 dX6_closes_108 rfl rfl ?_
        refine aw_get (v := .ref (ad 6)) (mg_o hok) rfl in_X6 16 (by decide) q1755 (Or.inl rfl) rfl dX6_closes_109 ?_
        refine aw_iload 5 dX6_closes_112 rfl ?_
        obtain ⟨j19, z20, ej19, hf⟩ := ob_s hf
        refine aw_ialdj (mg_6 hok) z20 ej19 dX6_closes_114 ?_
        refine aw_iand dX6_closes_115 ?_
        obtain ⟨j21, z22, ej21, hf⟩ := ob_s hf
        refine aw_iastj (mg_5 hok) z22 ej21 (mu_5 hok) dX6_closes_116 ?_
        refine aw_st (fun u23 eu23 => ?_)
        have hf := onm_a eu23 hf
        refine aw_iload_n 3 dX6_closes_117 rfl rfl ?_
        refine aw_aload_n 1 dX6_closes_118 rfl rfl ?_
        refine aw_iload 0 dX6_closes_119 rfl ?_
        obtain ⟨q24, eq24, hf⟩ := Option.bind_eq_some_iff.mp hf
        refine aw_callV (rest := [.int x3]) (C_X6_linesOf hok hl eq24) (mg_o hok) rfl rfl nX6_linesOf q2082 q2084 qs87 q137 q2085 dX6_closes_121 rfl (by decide) (by decide) (Nat.le_of_ble_eq_true rfl) (Nat.le_refl _) (Nat.le_refl _) (aP1_i ?_) aP1_x
        refine aw_iconst (v := 1) dX6_closes_124 (by decide) ?_
        refine aw_iload 4 dX6_closes_125 rfl ?_
        refine aw_ishl dX6_closes_127 ?_
        refine aw_iconst (v := (-1)) dX6_closes_128 (by decide) ?_
        refine aw_ixor dX6_closes_129 ?_
        refine aw_iand dX6_closes_130 ?_
        refine aw_ior dX6_closes_131 ?_
        refine aw_topi (fun v25 ev25 => ?_)
        have hf := onm_a ev25 hf
        refine aw_istore_n (lv' := [(3, .int v25), (6, .int q9), (0, .ref (ad 13)), (1, .int x1), (4, .int x4), (5, .int x5)]) dX6_closes_132 rfl (Nat.le_of_ble_eq_true rfl) rfl ?_
        refine aw_iinc 5 (v := x5 + 1) (lv' := [(5, .int (x5 + 1)), (3, .int v25), (6, .int q9), (0, .ref (ad 13)), (1, .int x1), (4, .int x4)]) dX6_closes_133 rfl rfl (Nat.le_of_ble_eq_true rfl) rfl ?_
        refine aw_goto 48 dX6_closes_136 (by decide) ?_
        refine aw_sub [3, 4, 1, 5, 0] rfl ?_
        exact ih x1 v25 x4 (x5 + 1) u23 hf
def S_X6_closes_c2 : Nat → Int32 → Int32 → MSt → Option (Int32 × MSt)
  | 0, _, _, _ => none
  | n + 1, x1, x3, st =>
    if x3 = 0 then
      some (1, st)
    else
      S_X6_closes_c9
        (fun y2_1 y2_3 y2_4 u3 => 
            onm (y2_3 &&& (((1 : Int32) <<< (y2_4 &&& 31)) ^^^ ((-1) : Int32))) fun v4 =>
            (S_X6_looks n y2_1 y2_4 u3).bind fun q5 =>
            if q5.1 = 0 then
              some (0, q5.2)
            else
              S_X6_closes_c48
                (fun y7_1 y7_3 u8 => 
                    S_X6_closes_c2 n y7_1 y7_3 u8)
                 n y2_1 v4 y2_4 0 q5.2)
         n x1 x3 0 st
set_option maxHeartbeats 2000000 in
theorem A_X6_closes_c2 {l : Launch} {G : aG} {ad : Nat → Nat} {h0 : aH} (hok : mOk ad) (hl : l.stackTraces = false) {r : Int32 × MSt} : ∀ (n : Nat) (x1 : Int32) (x3 : Int32) (st : MSt), S_X6_closes_c2 n x1 x3 st = some r → AW l G mX6_closes 4 0 0 (aP1 (some (.int r.1)) (mh ad r.2 h0)) 2 [(0, .ref (ad 13)), (1, .int x1), (3, .int x3)] [] (mh ad st h0) 0 0 := by
  intro n
  induction n with
  | zero =>
    intro x1 x3 st hf
    rw [S_X6_closes_c2] at hf
    cases hf
  | succ n ih =>
    intro x1 x3 st hf
    rw [S_X6_closes_c2] at hf
    refine aw_iload_n 2 dX6_closes_2 rfl rfl ?_
    refine aw_if_eq 142 dX6_closes_3 (by decide) (fun c1 => ?_) (fun c1 => ?_)
    · have hf := it_t c1 hf
      refine aw_iconst (v := 1) dX6_closes_142 (by decide) ?_
      cases hf
      exact aw_zret rfl rfl dX6_closes_143 aP1_rfl (Nat.le_refl _) (Nat.le_refl _)
    · have hf := it_f c1 hf
      refine aw_iconst (v := 0) dX6_closes_6 (by decide) ?_
      refine aw_istore (lv' := [(4, .int 0), (0, .ref (ad 13)), (1, .int x1), (3, .int x3)]) dX6_closes_7 (Nat.le_of_ble_eq_true rfl) rfl ?_
      refine aw_sub [1, 2, 3, 0] rfl ?_
      refine A_X6_closes_c9 hok hl ?_ n x1 x3 0 st hf
      · intro y2_1 y2_3 y2_4 u3 hf
        refine aw_iload_n 2 dX6_closes_24 rfl rfl ?_
        refine aw_iconst (v := 1) dX6_closes_25 (by decide) ?_
        refine aw_iload 3 dX6_closes_26 rfl ?_
        refine aw_ishl dX6_closes_28 ?_
        refine aw_iconst (v := (-1)) dX6_closes_29 (by decide) ?_
        refine aw_ixor dX6_closes_30 ?_
        refine aw_iand dX6_closes_31 ?_
        refine aw_topi (fun v4 ev4 => ?_)
        have hf := onm_a ev4 hf
        refine aw_istore_n (lv' := [(3, .int v4), (0, .ref (ad 13)), (1, .int y2_1), (4, .int y2_4)]) dX6_closes_32 rfl (Nat.le_of_ble_eq_true rfl) rfl ?_
        refine aw_aload_n 1 dX6_closes_33 rfl rfl ?_
        refine aw_iload_n 2 dX6_closes_34 rfl rfl ?_
        refine aw_iload 3 dX6_closes_35 rfl ?_
        obtain ⟨q5, eq5, hf⟩ := Option.bind_eq_some_iff.mp hf
        refine aw_callV (rest := []) (C_X6_looks hok hl eq5) (mg_o hok) rfl rfl nX6_looks q2017 q2019 qs80 q137 q2020 dX6_closes_37 rfl (by decide) (by decide) (Nat.le_of_ble_eq_true rfl) (Nat.le_refl _) (Nat.le_refl _) (aP1_i ?_) aP1_x
        refine aw_if_ne 45 dX6_closes_40 (by decide) (fun c6 => ?_) (fun c6 => ?_)
        · have hf := it_f c6 hf
          refine aw_iconst (v := 0) dX6_closes_45 (by decide) ?_
          refine aw_istore (lv' := [(5, .int 0), (3, .int v4), (0, .ref (ad 13)), (1, .int y2_1), (4, .int y2_4)]) dX6_closes_46 (Nat.le_of_ble_eq_true rfl) rfl ?_
          refine aw_sub [2, 3, 1, 4, 0] rfl ?_
          refine A_X6_closes_c48 hok hl ?_ n y2_1 v4 y2_4 0 q5.2 hf
          · intro y7_1 y7_3 u8 hf
            refine aw_goto 2 dX6_closes_139 (by decide) ?_
            exact ih y7_1 y7_3 u8 hf
        · have hf := it_t c6 hf
          refine aw_iconst (v := 0) dX6_closes_43 (by decide) ?_
          cases hf
          exact aw_zret rfl rfl dX6_closes_44 aP1_rfl (Nat.le_refl _) (Nat.le_refl _)
def S_X6_closes (n : Nat) (x1 : Int32) (x2 : Int32) (st : MSt) : Option (Int32 × MSt) :=
  S_X6_closes_c2 n x1 x2 st
set_option maxHeartbeats 2000000 in
theorem C_X6_closes {l : Launch} {G : aG} {ad : Nat → Nat} {h0 : aH} (hok : mOk ad) (hl : l.stackTraces = false) {n : Nat} {x1 : Int32} {x2 : Int32} {st : MSt} {r : Int32 × MSt} (hf : S_X6_closes n x1 x2 st = some r) : aC l G mX6_closes (ws_ yX6_closes cX6_closes 7 (some .boolean)) 4 0 0 [.ref (ad 13), .int x1, .int x2] (mh ad st h0) (aP1 (some (.int r.1)) (mh ad r.2 h0)) := by
  refine aC_of (M := mX6_closes) rfl (by decide) (Nat.le_of_ble_eq_true rfl) hl ?_
  rw [S_X6_closes] at hf
  refine aw_eqv (lv2 := [(0, .ref (ad 13)), (1, .int x1), (2, .int x2)]) rfl rfl rfl rfl ?_
  refine aw_iload_n 2 dX6_closes_0 rfl rfl ?_
  refine aw_istore_n (lv' := [(3, .int x2), (0, .ref (ad 13)), (1, .int x1), (2, .int x2)]) dX6_closes_1 rfl (Nat.le_of_ble_eq_true rfl) rfl ?_
  refine aw_sub [1, 2, 0] rfl ?_
  exact A_X6_closes_c2 hok hl n x1 x2 st hf
