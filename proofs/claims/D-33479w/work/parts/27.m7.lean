/-! the model: shallow functions and walks (printed by gen.py) -/
set_option maxRecDepth 100000
abbrev mX6_guess : aM := (yX6_guess, cX6_guess, 6, some .int, [])
theorem nX6_guess : aNoMH yX6_guess 2 := by decide +kernel
def S_X6_guess_j54 (K5 : Int32 → Int32 → Int32 → Int32 → Option (Int32)) (st : MSt) (n : Nat) (x1 : Int32) (x2 : Int32) (x3 : Int32) (x4 : Int32) (xs0 : Int32) : Option (Int32) :=
  ob (x1 + x4) 750 fun j4 =>
  (S_X6_isSettled n (st.2.1 5 j4) st).bind fun q6 =>
  if q6 = 0 then
    if xs0 = 0 then
      K5 x1 x2 x3 (x4 + 1)
    else
      K5 x1 x2 x4 (x4 + 1)
  else
    K5 x1 x2 x3 (x4 + 1)
set_option maxHeartbeats 2000000 in
theorem A_X6_guess_j54 {l : Launch} {G : aG} {ad : Nat → Nat} {h0 : aH} (hok : mOk ad) (hl : l.stackTraces = false) {r : Int32} {st : MSt} {K5 : Int32 → Int32 → Int32 → Int32 → Option (Int32)} (hK5 : ∀ (w1 : Int32) (w2 : Int32) (w3 : Int32) (w4 : Int32), K5 w1 w2 w3 w4 = some r → AW l G mX6_guess 2 0 0 (aP1 (some (.int r)) (mh ad st h0)) 5 [(0, .ref (ad 13)), (1, .int w1), (2, .int w2), (3, .int w3), (4, .int w4)] [] (mh ad st h0) 0 0) : ∀ (n : Nat) (x1 : Int32) (x2 : Int32) (x3 : Int32) (x4 : Int32) (xs0 : Int32), S_X6_guess_j54 K5 st n x1 x2 x3 x4 xs0 = some r → AW l G mX6_guess 2 0 0 (aP1 (some (.int r)) (mh ad st h0)) 54 [(0, .ref (ad 13)), (1, .int x1), (2, .int x2), (3, .int x3), (4, .int x4)] [.int xs0] (mh ad st h0) 0 0 := by
  intro n x1 x2 x3 x4 xs0 hf
  rw [S_X6_guess_j54] at hf
  refine aw_istore (lv' := [(5, .int xs0), (0, .ref (ad 13)), (1, .int x1), (2, .int x2), (3, .int x3), (4, .int x4)]) dX6_guess_54 (Nat.le_of_ble_eq_true rfl) rfl ?_
  refine aw_aload_n 1 dX6_guess_56 rfl rfl ?_
  refine aw_aload_n 1 dX6_guess_57 rfl rfl ?_
  refine aw_get (v := .ref (ad 5)) (mg_o hok) rfl in_X6 15 (by decide) q1754 (Or.inl rfl) rfl dX6_guess_58 ?_
  refine aw_iload_n 2 dX6_guess_61 rfl rfl ?_
  refine aw_iload 5 dX6_guess_62 rfl ?_
  refine aw_iadd dX6_guess_64 ?_
  obtain ⟨j4, z5, ej4, hf⟩ := ob_s hf
  refine aw_ialdj (mg_5 hok) z5 ej4 dX6_guess_65 ?_
  obtain ⟨q6, eq6, hf⟩ := Option.bind_eq_some_iff.mp hf
  refine aw_callV (rest := []) (C_X6_isSettled hok hl eq6) (mg_o hok) rfl rfl nX6_isSettled q1994 q1996 qs76 q137 q1997 dX6_guess_66 rfl (by decide) (by decide) (Nat.le_of_ble_eq_true rfl) (Nat.le_refl _) (Nat.le_refl _) (aP1_i ?_) aP1_x
  refine aw_if_ne 82 dX6_guess_69 (by decide) (fun c7 => ?_) (fun c7 => ?_)
  · have hf := it_f c7 hf
    refine aw_iload_n 4 dX6_guess_82 rfl rfl ?_
    refine aw_istore_n (lv' := [(3, .int x3), (5, .int xs0), (0, .ref (ad 13)), (1, .int x1), (2, .int x2), (4, .int x4)]) dX6_guess_83 rfl (Nat.le_of_ble_eq_true rfl) rfl ?_
    refine aw_iinc 5 (v := x4 + 1) (lv' := [(4, .int (x4 + 1)), (3, .int x3), (5, .int xs0), (0, .ref (ad 13)), (1, .int x1), (2, .int x2)]) dX6_guess_84 rfl rfl (Nat.le_of_ble_eq_true rfl) rfl ?_
    refine aw_goto 5 dX6_guess_87 (by decide) ?_
    refine aw_sub [3, 4, 5, 1, 0] rfl ?_
    exact hK5 x1 x2 x3 (x4 + 1) hf
  · have hf := it_t c7 hf
    refine aw_iload 0 dX6_guess_72 rfl ?_
    refine aw_if_eq 82 dX6_guess_74 (by decide) (fun c8 => ?_) (fun c8 => ?_)
    · have hf := it_t c8 hf
      refine aw_iload_n 4 dX6_guess_82 rfl rfl ?_
      refine aw_istore_n (lv' := [(3, .int x3), (5, .int xs0), (0, .ref (ad 13)), (1, .int x1), (2, .int x2), (4, .int x4)]) dX6_guess_83 rfl (Nat.le_of_ble_eq_true rfl) rfl ?_
      refine aw_iinc 5 (v := x4 + 1) (lv' := [(4, .int (x4 + 1)), (3, .int x3), (5, .int xs0), (0, .ref (ad 13)), (1, .int x1), (2, .int x2)]) dX6_guess_84 rfl rfl (Nat.le_of_ble_eq_true rfl) rfl ?_
      refine aw_goto 5 dX6_guess_87 (by decide) ?_
      refine aw_sub [3, 4, 5, 1, 0] rfl ?_
      exact hK5 x1 x2 x3 (x4 + 1) hf
    · have hf := it_f c8 hf
      refine aw_iload 5 dX6_guess_77 rfl ?_
      refine aw_goto 83 dX6_guess_79 (by decide) ?_
      refine aw_istore_n (lv' := [(3, .int x4), (5, .int xs0), (0, .ref (ad 13)), (1, .int x1), (2, .int x2), (4, .int x4)]) dX6_guess_83 rfl (Nat.le_of_ble_eq_true rfl) rfl ?_
      refine aw_iinc 5 (v := x4 + 1) (lv' := [(4, .int (x4 + 1)), (3, .int x4), (5, .int xs0), (0, .ref (ad 13)), (1, .int x1), (2, .int x2)]) dX6_guess_84 rfl rfl (Nat.le_of_ble_eq_true rfl) rfl ?_
      refine aw_goto 5 dX6_guess_87 (by decide) ?_
      refine aw_sub [3, 4, 5, 1, 0] rfl ?_
      exact hK5 x1 x2 x4 (x4 + 1) hf
def S_X6_guess_c5 (st : MSt) : Nat → Int32 → Int32 → Int32 → Int32 → Option (Int32)
  | 0, _, _, _, _ => none
  | n + 1, x1, x2, x3, x4 =>
    (S_X6_cells st).bind fun q1 =>
    if q1 ≤ x4 then
      some x3
    else
      if x3 = ((-1)) then
        S_X6_guess_j54 (S_X6_guess_c5 st n) st n x1 x2 x3 x4 1
      else
        if x2 = 0 then
          ob (x1 + x4) 750 fun j5 =>
          (S_X6_many n (st.2.1 5 j5)).bind fun q7 =>
          ob (x1 + x3) 750 fun j8 =>
          (S_X6_many n (st.2.1 5 j8)).bind fun q10 =>
          if q10 ≤ q7 then
            S_X6_guess_j54 (S_X6_guess_c5 st n) st n x1 x2 x3 x4 0
          else
            S_X6_guess_j54 (S_X6_guess_c5 st n) st n x1 x2 x3 x4 1
        else
          S_X6_guess_j54 (S_X6_guess_c5 st n) st n x1 x2 x3 x4 0
set_option maxHeartbeats 2000000 in
theorem A_X6_guess_c5 {l : Launch} {G : aG} {ad : Nat → Nat} {h0 : aH} (hok : mOk ad) (hl : l.stackTraces = false) {r : Int32} {st : MSt} : ∀ (n : Nat) (x1 : Int32) (x2 : Int32) (x3 : Int32) (x4 : Int32), S_X6_guess_c5 st n x1 x2 x3 x4 = some r → AW l G mX6_guess 2 0 0 (aP1 (some (.int r)) (mh ad st h0)) 5 [(0, .ref (ad 13)), (1, .int x1), (2, .int x2), (3, .int x3), (4, .int x4)] [] (mh ad st h0) 0 0 := by
  intro n
  induction n with
  | zero =>
    intro x1 x2 x3 x4 hf
    rw [S_X6_guess_c5] at hf
    cases hf
  | succ n ih =>
    intro x1 x2 x3 x4 hf
    rw [S_X6_guess_c5] at hf
    refine aw_iload 4 dX6_guess_5 rfl ?_
    refine aw_aload_n 0 dX6_guess_7 rfl rfl ?_
    obtain ⟨q1, eq1, hf⟩ := Option.bind_eq_some_iff.mp hf
    refine aw_callV (rest := [.int x4]) (C_X6_cells hok hl eq1) (mg_o hok) rfl rfl nX6_cells q1735 q1737 qs54 q137 q1738 dX6_guess_8 rfl (by decide) (by decide) (Nat.le_of_ble_eq_true rfl) (Nat.le_refl _) (Nat.le_refl _) (aP1_i ?_) aP1_x
    refine aw_icmp_ge 90 dX6_guess_11 (by decide) (fun c2 => ?_) (fun c2 => ?_)
    · have hf := it_t c2 hf
      refine aw_iload_n 3 dX6_guess_90 rfl rfl ?_
      cases hf
      exact aw_iret rfl dX6_guess_91 aP1_rfl (Nat.le_refl _) (Nat.le_refl _)
    · have hf := it_f c2 hf
      refine aw_iload_n 3 dX6_guess_14 rfl rfl ?_
      refine aw_iconst (v := (-1)) dX6_guess_15 (by decide) ?_
      refine aw_icmp_eq 49 dX6_guess_16 (by decide) (fun c3 => ?_) (fun c3 => ?_)
      · have hf := it_t c3 hf
        refine aw_iconst (v := 1) dX6_guess_49 (by decide) ?_
        refine aw_goto 54 dX6_guess_50 (by decide) ?_
        exact A_X6_guess_j54 hok hl (fun w1 w2 w3 w4 hf => ih w1 w2 w3 w4 hf) n x1 x2 x3 x4 1 hf
      · have hf := it_f c3 hf
        refine aw_iload_n 2 dX6_guess_19 rfl rfl ?_
        refine aw_if_ne 53 dX6_guess_20 (by decide) (fun c4 => ?_) (fun c4 => ?_)
        · have hf := it_f c4 hf
          refine aw_iconst (v := 0) dX6_guess_53 (by decide) ?_
          exact A_X6_guess_j54 hok hl (fun w1 w2 w3 w4 hf => ih w1 w2 w3 w4 hf) n x1 x2 x3 x4 0 hf
        · have hf := it_t c4 hf
          refine aw_aload_n 0 dX6_guess_23 rfl rfl ?_
          refine aw_get (v := .ref (ad 5)) (mg_o hok) rfl in_X6 15 (by decide) q1754 (Or.inl rfl) rfl dX6_guess_24 ?_
          refine aw_iload_n 1 dX6_guess_27 rfl rfl ?_
          refine aw_iload 4 dX6_guess_28 rfl ?_
          refine aw_iadd dX6_guess_30 ?_
          obtain ⟨j5, z6, ej5, hf⟩ := ob_s hf
          refine aw_ialdj (mg_5 hok) z6 ej5 dX6_guess_31 ?_
          obtain ⟨q7, eq7, hf⟩ := Option.bind_eq_some_iff.mp hf
          refine aw_callS (rest := []) (C_X6_many hl eq7) nX6_many q1998 q1999 q137 q2000 dX6_guess_32 rfl (by decide) (by decide) (Nat.le_of_ble_eq_true rfl) (Nat.le_refl _) (Nat.le_refl _) (aP1_i ?_) aP1_x
          refine aw_aload_n 0 dX6_guess_35 rfl rfl ?_
          refine aw_get (v := .ref (ad 5)) (mg_o hok) rfl in_X6 15 (by decide) q1754 (Or.inl rfl) rfl dX6_guess_36 ?_
          refine aw_iload_n 1 dX6_guess_39 rfl rfl ?_
          refine aw_iload_n 3 dX6_guess_40 rfl rfl ?_
          refine aw_iadd dX6_guess_41 ?_
          obtain ⟨j8, z9, ej8, hf⟩ := ob_s hf
          refine aw_ialdj (mg_5 hok) z9 ej8 dX6_guess_42 ?_
          obtain ⟨q10, eq10, hf⟩ := Option.bind_eq_some_iff.mp hf
          refine aw_callS (rest := [.int q7]) (C_X6_many hl eq10) nX6_many q1998 q1999 q137 q2000 dX6_guess_43 rfl (by decide) (by decide) (Nat.le_of_ble_eq_true rfl) (Nat.le_refl _) (Nat.le_refl _) (aP1_i ?_) aP1_x
          refine aw_icmp_ge 53 dX6_guess_46 (by decide) (fun c11 => ?_) (fun c11 => ?_)
          · have hf := it_t c11 hf
            refine aw_iconst (v := 0) dX6_guess_53 (by decide) ?_
            exact A_X6_guess_j54 hok hl (fun w1 w2 w3 w4 hf => ih w1 w2 w3 w4 hf) n x1 x2 x3 x4 0 hf
          · have hf := it_f c11 hf
            refine aw_iconst (v := 1) dX6_guess_49 (by decide) ?_
            refine aw_goto 54 dX6_guess_50 (by decide) ?_
            exact A_X6_guess_j54 hok hl (fun w1 w2 w3 w4 hf => ih w1 w2 w3 w4 hf) n x1 x2 x3 x4 1 hf
def S_X6_guess (n : Nat) (x1 : Int32) (x2 : Int32) (st : MSt) : Option (Int32) :=
  S_X6_guess_c5 st n x1 x2 ((-1)) 0
set_option maxHeartbeats 2000000 in
theorem C_X6_guess {l : Launch} {G : aG} {ad : Nat → Nat} {h0 : aH} (hok : mOk ad) (hl : l.stackTraces = false) {n : Nat} {x1 : Int32} {x2 : Int32} {st : MSt} {r : Int32} (hf : S_X6_guess n x1 x2 st = some r) : aC l G mX6_guess (ws_ yX6_guess cX6_guess 6 (some .int)) 2 0 0 [.ref (ad 13), .int x1, .int x2] (mh ad st h0) (aP1 (some (.int r)) (mh ad st h0)) := by
  refine aC_of (M := mX6_guess) rfl (by decide) (Nat.le_of_ble_eq_true rfl) hl ?_
  rw [S_X6_guess] at hf
  refine aw_eqv (lv2 := [(0, .ref (ad 13)), (1, .int x1), (2, .int x2)]) rfl rfl rfl rfl ?_
  refine aw_iconst (v := (-1)) dX6_guess_0 (by decide) ?_
  refine aw_istore_n (lv' := [(3, .int ((-1))), (0, .ref (ad 13)), (1, .int x1), (2, .int x2)]) dX6_guess_1 rfl (Nat.le_of_ble_eq_true rfl) rfl ?_
  refine aw_iconst (v := 0) dX6_guess_2 (by decide) ?_
  refine aw_istore (lv' := [(4, .int 0), (3, .int ((-1))), (0, .ref (ad 13)), (1, .int x1), (2, .int x2)]) dX6_guess_3 (Nat.le_of_ble_eq_true rfl) rfl ?_
  refine aw_sub [2, 3, 4, 1, 0] rfl ?_
  exact A_X6_guess_c5 hok hl n x1 x2 ((-1)) 0 hf
abbrev mX6_solutions : aM := (yX6_solutions, cX6_solutions, 8, some .int, [])
theorem nX6_solutions : aNoMH yX6_solutions 2 := by decide +kernel
def S_X6_solutions_c95 (K135 : Int32 → Int32 → Int32 → Int32 → Int32 → Int32 → MSt → Option (Int32 × MSt)) : Nat → Int32 → Int32 → Int32 → Int32 → Int32 → Int32 → MSt → Option (Int32 × MSt)
  | 0, _, _, _, _, _, _, _ => none
  | n + 1, x1, x2, x3, x4, x5, x6, st =>
    if (st.2.1 0 1) < x6 then
      K135 x1 x2 x3 x4 x5 x6 st
    else
      ob x4 27 fun j17 =>
      ob (x5 + (st.2.1 8 j17)) 750 fun j19 =>
      (S_X6_has (st.2.1 5 j19) x6).bind fun q21 =>
      if q21 = 0 then
        S_X6_solutions_c95 K135 n x1 x2 x3 x4 x5 (x6 + 1) st
      else
        K135 x1 x2 x3 x4 x5 x6 st
set_option maxHeartbeats 2000000 in
theorem A_X6_solutions_c95 {l : Launch} {G : aG} {ad : Nat → Nat} {h0 : aH} (hok : mOk ad) (hl : l.stackTraces = false) {r : Int32 × MSt} {K135 : Int32 → Int32 → Int32 → Int32 → Int32 → Int32 → MSt → Option (Int32 × MSt)} (hK135 : ∀ (w1 : Int32) (w2 : Int32) (w3 : Int32) (w4 : Int32) (w5 : Int32) (w6 : Int32) (st : MSt), K135 w1 w2 w3 w4 w5 w6 st = some r → AW l G mX6_solutions 5 0 0 (aP1 (some (.int r.1)) (mh ad r.2 h0)) 135 [(0, .ref (ad 13)), (1, .int w1), (2, .int w2), (3, .int w3), (4, .int w4), (5, .int w5), (6, .int w6)] [] (mh ad st h0) 0 0) : ∀ (n : Nat) (x1 : Int32) (x2 : Int32) (x3 : Int32) (x4 : Int32) (x5 : Int32) (x6 : Int32) (st : MSt), S_X6_solutions_c95 K135 n x1 x2 x3 x4 x5 x6 st = some r → AW l G mX6_solutions 5 0 0 (aP1 (some (.int r.1)) (mh ad r.2 h0)) 95 [(0, .ref (ad 13)), (1, .int x1), (2, .int x2), (3, .int x3), (4, .int x4), (5, .int x5), (6, .int x6)] [] (mh ad st h0) 0 0 := by
  intro n
  induction n with
  | zero =>
    intro x1 x2 x3 x4 x5 x6 st hf
    rw [S_X6_solutions_c95] at hf
    cases hf
  | succ n ih =>
    intro x1 x2 x3 x4 x5 x6 st hf
    rw [S_X6_solutions_c95] at hf
    refine aw_iload 6 dX6_solutions_95 rfl ?_
    refine aw_aload_n 0 dX6_solutions_97 rfl rfl ?_
    refine aw_get (v := .ref (ad 0)) (mg_o hok) rfl in_X6 0 (by decide) q1739 (Or.inl rfl) rfl dX6_solutions_98 ?_
    refine aw_iconst (v := 1) dX6_solutions_101 (by decide) ?_
    refine aw_ialdj (j := 1) (mg_0 hok) (vpc (by decide)) (by decide) dX6_solutions_102 ?_
    refine aw_icmp_gt 135 dX6_solutions_103 (by decide) (fun c16 => ?_) (fun c16 => ?_)
    · have hf := it_t c16 hf
      exact hK135 x1 x2 x3 x4 x5 x6 st hf
    · have hf := it_f c16 hf
      refine aw_aload_n 0 dX6_solutions_106 rfl rfl ?_
      refine aw_get (v := .ref (ad 5)) (mg_o hok) rfl in_X6 15 (by decide) q1754 (Or.inl rfl) rfl dX6_solutions_107 ?_
      refine aw_iload 5 dX6_solutions_110 rfl ?_
      refine aw_aload_n 0 dX6_solutions_112 rfl rfl ?_
      refine aw_get (v := .ref (ad 8)) (mg_o hok) rfl in_X6 18 (by decide) q1757 (Or.inl rfl) rfl dX6_solutions_113 ?_
      refine aw_iload 4 dX6_solutions_116 rfl ?_
      obtain ⟨j17, z18, ej17, hf⟩ := ob_s hf
      refine aw_ialdj (mg_8 hok) z18 ej17 dX6_solutions_118 ?_
      refine aw_iadd dX6_solutions_119 ?_
      obtain ⟨j19, z20, ej19, hf⟩ := ob_s hf
      refine aw_ialdj (mg_5 hok) z20 ej19 dX6_solutions_120 ?_
      refine aw_iload 6 dX6_solutions_121 rfl ?_
      obtain ⟨q21, eq21, hf⟩ := Option.bind_eq_some_iff.mp hf
      refine aw_callS (rest := []) (C_X6_has hl eq21) nX6_has q1903 q1904 q137 q1905 dX6_solutions_123 rfl (by decide) (by decide) (Nat.le_of_ble_eq_true rfl) (Nat.le_refl _) (Nat.le_refl _) (aP1_i ?_) aP1_x
      refine aw_if_ne 135 dX6_solutions_126 (by decide) (fun c22 => ?_) (fun c22 => ?_)
      · have hf := it_f c22 hf
        exact hK135 x1 x2 x3 x4 x5 x6 st hf
      · have hf := it_t c22 hf
        refine aw_iinc 6 (v := x6 + 1) (lv' := [(6, .int (x6 + 1)), (0, .ref (ad 13)), (1, .int x1), (2, .int x2), (3, .int x3), (4, .int x4), (5, .int x5)]) dX6_solutions_129 rfl rfl (Nat.le_of_ble_eq_true rfl) rfl ?_
        refine aw_goto 95 dX6_solutions_132 (by decide) ?_
        refine aw_sub [1, 2, 3, 4, 5, 6, 0] rfl ?_
        exact ih x1 x2 x3 x4 x5 (x6 + 1) st hf
def S_X6_solutions_j135 (K64 : Int32 → Int32 → Int32 → Int32 → MSt → Option (Int32 × MSt)) (n : Nat) (x1 : Int32) (x2 : Int32) (x3 : Int32) (x4 : Int32) (x5 : Int32) (x6 : Int32) (st : MSt) : Option (Int32 × MSt) :=
  ob x4 27 fun j25 =>
  onm (mA st 9 j25 x6) fun u27 =>
  if x6 ≤ (u27.2.1 0 1) then
    onm (x5 + (25 : Int32)) fun v29 =>
    (S_X6_layers n x5 v29 u27).bind fun q30 =>
    ob x4 27 fun j31 =>
    ob (v29 + (q30.2.1 8 j31)) 750 fun j33 =>
    onm (mA q30 5 j33 ((1 : Int32) <<< (x6 &&& 31))) fun u35 =>
    ob x4 27 fun j36 =>
    (S_X6_linesOf (u35.2.1 8 j36) u35).bind fun q38 =>
    (S_X6_closes n v29 q38 u35).bind fun q39 =>
    if q39.1 = 0 then
      K64 x1 x2 x3 x4 q39.2
    else
      (S_X6_isDone n v29 q39.2).bind fun q41 =>
      if q41 = 0 then
        (S_X6_guess n v29 x2 q39.2).bind fun q43 =>
        ob (x4 + 1) 27 fun j44 =>
        onm (mA q39.2 8 j44 q43) fun u46 =>
        ob (x4 + 1) 27 fun j47 =>
        onm (mA u46 9 j47 ((-1))) fun u49 =>
        K64 x1 x2 x3 (x4 + 1) u49
      else
        (S_X6_finds n v29 x3 q39.2).bind fun q50 =>
        K64 x1 x2 (x3 + 1) x4 q50
  else
    K64 x1 x2 x3 (x4 + (-1)) u27
set_option maxHeartbeats 2000000 in
theorem A_X6_solutions_j135 {l : Launch} {G : aG} {ad : Nat → Nat} {h0 : aH} (hok : mOk ad) (hl : l.stackTraces = false) {r : Int32 × MSt} {K64 : Int32 → Int32 → Int32 → Int32 → MSt → Option (Int32 × MSt)} (hK64 : ∀ (w1 : Int32) (w2 : Int32) (w3 : Int32) (w4 : Int32) (st : MSt), K64 w1 w2 w3 w4 st = some r → AW l G mX6_solutions 5 0 0 (aP1 (some (.int r.1)) (mh ad r.2 h0)) 64 [(0, .ref (ad 13)), (1, .int w1), (2, .int w2), (3, .int w3), (4, .int w4)] [] (mh ad st h0) 0 0) : ∀ (n : Nat) (x1 : Int32) (x2 : Int32) (x3 : Int32) (x4 : Int32) (x5 : Int32) (x6 : Int32) (st : MSt), S_X6_solutions_j135 K64 n x1 x2 x3 x4 x5 x6 st = some r → AW l G mX6_solutions 5 0 0 (aP1 (some (.int r.1)) (mh ad r.2 h0)) 135 [(0, .ref (ad 13)), (1, .int x1), (2, .int x2), (3, .int x3), (4, .int x4), (5, .int x5), (6, .int x6)] [] (mh ad st h0) 0 0 := by
  intro n x1 x2 x3 x4 x5 x6 st hf
  rw [S_X6_solutions_j135] at hf
  refine aw_aload_n 0 dX6_solutions_135 rfl rfl ?_
  refine aw_get (v := .ref (ad 9)) (mg_o hok) rfl in_X6 19 (by decide) q1758 (Or.inl rfl) rfl dX6_solutions_136 ?_
  refine aw_iload 4 dX6_solutions_139 rfl ?_
  refine aw_iload 6 dX6_solutions_141 rfl ?_
  obtain ⟨j25, z26, ej25, hf⟩ := ob_s hf
  refine aw_iastj (mg_9 hok) z26 ej25 (mu_9 hok) dX6_solutions_143 ?_
  refine aw_st (fun u27 eu27 => ?_)
  have hf := onm_a eu27 hf
  refine aw_iload 6 dX6_solutions_144 rfl ?_
  refine aw_aload_n 0 dX6_solutions_146 rfl rfl ?_
  refine aw_get (v := .ref (ad 0)) (mg_o hok) rfl in_X6 0 (by decide) q1739 (Or.inl rfl) rfl dX6_solutions_147 ?_
  refine aw_iconst (v := 1) dX6_solutions_150 (by decide) ?_
  refine aw_ialdj (j := 1) (mg_0 hok) (vpc (by decide)) (by decide) dX6_solutions_151 ?_
  refine aw_icmp_le 161 dX6_solutions_152 (by decide) (fun c28 => ?_) (fun c28 => ?_)
  · have hf := it_t c28 hf
    refine aw_iload 5 dX6_solutions_161 rfl ?_
    refine aw_bipush (v := 25) dX6_solutions_163 (by decide) ?_
    refine aw_iadd dX6_solutions_165 ?_
    refine aw_topi (fun v29 ev29 => ?_)
    have hf := onm_a ev29 hf
    refine aw_istore (lv' := [(7, .int v29), (0, .ref (ad 13)), (1, .int x1), (2, .int x2), (3, .int x3), (4, .int x4), (5, .int x5), (6, .int x6)]) dX6_solutions_166 (Nat.le_of_ble_eq_true rfl) rfl ?_
    refine aw_aload_n 1 dX6_solutions_168 rfl rfl ?_
    refine aw_iload 6 dX6_solutions_169 rfl ?_
    refine aw_iload 0 dX6_solutions_171 rfl ?_
    obtain ⟨q30, eq30, hf⟩ := Option.bind_eq_some_iff.mp hf
    refine aw_callV (rest := []) (C_X6_layers hok hl eq30) (mg_o hok) rfl rfl nX6_layers q2118 q2120 qs96 q137 q2121 dX6_solutions_173 rfl (by decide) (by decide) (Nat.le_of_ble_eq_true rfl) (Nat.le_refl _) (Nat.le_refl _) (aP1_v ?_) aP1_x
    refine aw_aload_n 1 dX6_solutions_176 rfl rfl ?_
    refine aw_get (v := .ref (ad 5)) (mg_o hok) rfl in_X6 15 (by decide) q1754 (Or.inl rfl) rfl dX6_solutions_177 ?_
    refine aw_iload 0 dX6_solutions_180 rfl ?_
    refine aw_aload_n 1 dX6_solutions_182 rfl rfl ?_
    refine aw_get (v := .ref (ad 8)) (mg_o hok) rfl in_X6 18 (by decide) q1757 (Or.inl rfl) rfl dX6_solutions_183 ?_
    refine aw_iload 5 dX6_solutions_186 rfl ?_
    obtain ⟨j31, z32, ej31, hf⟩ := ob_s hf
    refine aw_ialdj (mg_8 hok) z32 ej31 dX6_solutions_188 ?_
    refine aw_iadd dX6_solutions_189 ?_
    refine aw_iconst (v := 1) dX6_solutions_190 (by decide) ?_
    refine aw_iload 7 dX6_solutions_191 rfl ?_
    refine aw_ishl dX6_solutions_193 ?_
    obtain ⟨j33, z34, ej33, hf⟩ := ob_s hf
    refine aw_iastj (mg_5 hok) z34 ej33 (mu_5 hok) dX6_solutions_194 ?_
    refine aw_st (fun u35 eu35 => ?_)
    have hf := onm_a eu35 hf
    refine aw_aload_n 1 dX6_solutions_195 rfl rfl ?_
    refine aw_iload 0 dX6_solutions_196 rfl ?_
    refine aw_aload_n 1 dX6_solutions_198 rfl rfl ?_
    refine aw_aload_n 1 dX6_solutions_199 rfl rfl ?_
    refine aw_get (v := .ref (ad 8)) (mg_o hok) rfl in_X6 18 (by decide) q1757 (Or.inl rfl) rfl dX6_solutions_200 ?_
    refine aw_iload 5 dX6_solutions_203 rfl ?_
    obtain ⟨j36, z37, ej36, hf⟩ := ob_s hf
    refine aw_ialdj (mg_8 hok) z37 ej36 dX6_solutions_205 ?_
    obtain ⟨q38, eq38, hf⟩ := Option.bind_eq_some_iff.mp hf
    refine aw_callV (rest := [.int v29, .ref (ad 13)]) (C_X6_linesOf hok hl eq38) (mg_o hok) rfl rfl nX6_linesOf q2082 q2084 qs87 q137 q2085 dX6_solutions_206 rfl (by decide) (by decide) (Nat.le_of_ble_eq_true rfl) (Nat.le_refl _) (Nat.le_refl _) (aP1_i ?_) aP1_x
    obtain ⟨q39, eq39, hf⟩ := Option.bind_eq_some_iff.mp hf
    refine aw_callV (rest := []) (C_X6_closes hok hl eq39) (mg_o hok) rfl rfl nX6_closes q2122 q2124 qs97 q137 q2125 dX6_solutions_209 rfl (by decide) (by decide) (Nat.le_of_ble_eq_true rfl) (Nat.le_refl _) (Nat.le_refl _) (aP1_i ?_) aP1_x
    refine aw_if_eq 262 dX6_solutions_212 (by decide) (fun c40 => ?_) (fun c40 => ?_)
    · have hf := it_t c40 hf
      refine aw_goto 64 dX6_solutions_262 (by decide) ?_
      refine aw_sub [1, 2, 3, 4, 5] rfl ?_
      exact hK64 x1 x2 x3 x4 q39.2 hf
    · have hf := it_f c40 hf
      refine aw_aload_n 1 dX6_solutions_215 rfl rfl ?_
      refine aw_iload 0 dX6_solutions_216 rfl ?_
      obtain ⟨q41, eq41, hf⟩ := Option.bind_eq_some_iff.mp hf
      refine aw_callV (rest := []) (C_X6_isDone hok hl eq41) (mg_o hok) rfl rfl nX6_isDone q2166 q2168 qs102 q137 q2169 dX6_solutions_218 rfl (by decide) (by decide) (Nat.le_of_ble_eq_true rfl) (Nat.le_refl _) (Nat.le_refl _) (aP1_i ?_) aP1_x
      refine aw_if_eq 237 dX6_solutions_221 (by decide) (fun c42 => ?_) (fun c42 => ?_)
      · have hf := it_t c42 hf
        refine aw_iinc 5 (v := x4 + 1) (lv' := [(4, .int (x4 + 1)), (7, .int v29), (0, .ref (ad 13)), (1, .int x1), (2, .int x2), (3, .int x3), (5, .int x5), (6, .int x6)]) dX6_solutions_237 rfl rfl (Nat.le_of_ble_eq_true rfl) rfl ?_
        refine aw_aload_n 2 dX6_solutions_240 rfl rfl ?_
        refine aw_get (v := .ref (ad 8)) (mg_o hok) rfl in_X6 18 (by decide) q1757 (Or.inl rfl) rfl dX6_solutions_241 ?_
        refine aw_iload 0 dX6_solutions_244 rfl ?_
        refine aw_aload_n 2 dX6_solutions_246 rfl rfl ?_
        refine aw_iload 1 dX6_solutions_247 rfl ?_
        refine aw_iload_n 4 dX6_solutions_249 rfl rfl ?_
        obtain ⟨q43, eq43, hf⟩ := Option.bind_eq_some_iff.mp hf
        refine aw_callV (rest := [.int (x4 + 1), .ref (ad 8)]) (C_X6_guess hok hl eq43) (mg_o hok) rfl rfl nX6_guess q2175 q2177 qs104 q137 q2178 dX6_solutions_250 rfl (by decide) (by decide) (Nat.le_of_ble_eq_true rfl) (Nat.le_refl _) (Nat.le_refl _) (aP1_i ?_) aP1_x
        obtain ⟨j44, z45, ej44, hf⟩ := ob_s hf
        refine aw_iastj (mg_8 hok) z45 ej44 (mu_8 hok) dX6_solutions_253 ?_
        refine aw_st (fun u46 eu46 => ?_)
        have hf := onm_a eu46 hf
        refine aw_aload_n 2 dX6_solutions_254 rfl rfl ?_
        refine aw_get (v := .ref (ad 9)) (mg_o hok) rfl in_X6 19 (by decide) q1758 (Or.inl rfl) rfl dX6_solutions_255 ?_
        refine aw_iload 0 dX6_solutions_258 rfl ?_
        refine aw_iconst (v := (-1)) dX6_solutions_260 (by decide) ?_
        obtain ⟨j47, z48, ej47, hf⟩ := ob_s hf
        refine aw_iastj (mg_9 hok) z48 ej47 (mu_9 hok) dX6_solutions_261 ?_
        refine aw_st (fun u49 eu49 => ?_)
        have hf := onm_a eu49 hf
        refine aw_goto 64 dX6_solutions_262 (by decide) ?_
        refine aw_sub [2, 3, 4, 5, 0] rfl ?_
        exact hK64 x1 x2 x3 (x4 + 1) u49 hf
      · have hf := it_f c42 hf
        refine aw_aload_n 1 dX6_solutions_224 rfl rfl ?_
        refine aw_iload 0 dX6_solutions_225 rfl ?_
        refine aw_iload_n 4 dX6_solutions_227 rfl rfl ?_
        obtain ⟨q50, eq50, hf⟩ := Option.bind_eq_some_iff.mp hf
        refine aw_callV (rest := []) (C_X6_finds hok hl eq50) (mg_o hok) rfl rfl nX6_finds q2170 q2172 qs103 q137 q2173 dX6_solutions_228 rfl (by decide) (by decide) (Nat.le_of_ble_eq_true rfl) (Nat.le_refl _) (Nat.le_refl _) (aP1_v ?_) aP1_x
        refine aw_iinc 4 (v := x3 + 1) (lv' := [(3, .int (x3 + 1)), (7, .int v29), (0, .ref (ad 13)), (1, .int x1), (2, .int x2), (4, .int x4), (5, .int x5), (6, .int x6)]) dX6_solutions_231 rfl rfl (Nat.le_of_ble_eq_true rfl) rfl ?_
        refine aw_goto 262 dX6_solutions_234 (by decide) ?_
        refine aw_goto 64 dX6_solutions_262 (by decide) ?_
        refine aw_sub [2, 3, 4, 0, 5] rfl ?_
        exact hK64 x1 x2 (x3 + 1) x4 q50 hf
  · have hf := it_f c28 hf
    refine aw_iinc 4 (v := x4 + (-1)) (lv' := [(4, .int (x4 + (-1))), (0, .ref (ad 13)), (1, .int x1), (2, .int x2), (3, .int x3), (5, .int x5), (6, .int x6)]) dX6_solutions_155 rfl rfl (Nat.le_of_ble_eq_true rfl) rfl ?_
    refine aw_goto 262 dX6_solutions_158 (by decide) ?_
    refine aw_goto 64 dX6_solutions_262 (by decide) ?_
    refine aw_sub [1, 2, 3, 4, 0] rfl ?_
    exact hK64 x1 x2 x3 (x4 + (-1)) u27 hf
def S_X6_solutions_c64 : Nat → Int32 → Int32 → Int32 → Int32 → MSt → Option (Int32 × MSt)
  | 0, _, _, _, _, _ => none
  | n + 1, x1, x2, x3, x4, st =>
    if x4 < 0 then
      some (x3, st)
    else
      if x1 ≤ x3 then
        some (x3, st)
      else
        onm ((75 : Int32) + ((25 : Int32) * x4)) fun v12 =>
        ob x4 27 fun j13 =>
        onm ((st.2.1 9 j13) + (1 : Int32)) fun v15 =>
        S_X6_solutions_c95
          (fun y16_1 y16_2 y16_3 y16_4 y16_5 y16_6 u17 => 
              S_X6_solutions_j135 (S_X6_solutions_c64 n) n y16_1 y16_2 y16_3 y16_4 y16_5 y16_6 u17)
           n x1 x2 x3 x4 v12 v15 st
set_option maxHeartbeats 2000000 in
theorem A_X6_solutions_c64 {l : Launch} {G : aG} {ad : Nat → Nat} {h0 : aH} (hok : mOk ad) (hl : l.stackTraces = false) {r : Int32 × MSt} : ∀ (n : Nat) (x1 : Int32) (x2 : Int32) (x3 : Int32) (x4 : Int32) (st : MSt), S_X6_solutions_c64 n x1 x2 x3 x4 st = some r → AW l G mX6_solutions 5 0 0 (aP1 (some (.int r.1)) (mh ad r.2 h0)) 64 [(0, .ref (ad 13)), (1, .int x1), (2, .int x2), (3, .int x3), (4, .int x4)] [] (mh ad st h0) 0 0 := by
  intro n
  induction n with
  | zero =>
    intro x1 x2 x3 x4 st hf
    rw [S_X6_solutions_c64] at hf
    cases hf
  | succ n ih =>
    intro x1 x2 x3 x4 st hf
    rw [S_X6_solutions_c64] at hf
    refine aw_iload 4 dX6_solutions_64 rfl ?_
    refine aw_if_lt 265 dX6_solutions_66 (by decide) (fun c10 => ?_) (fun c10 => ?_)
    · have hf := it_t c10 hf
      refine aw_iload_n 3 dX6_solutions_265 rfl rfl ?_
      cases hf
      exact aw_iret rfl dX6_solutions_266 aP1_rfl (Nat.le_refl _) (Nat.le_refl _)
    · have hf := it_f c10 hf
      refine aw_iload_n 3 dX6_solutions_69 rfl rfl ?_
      refine aw_iload_n 1 dX6_solutions_70 rfl rfl ?_
      refine aw_icmp_ge 265 dX6_solutions_71 (by decide) (fun c11 => ?_) (fun c11 => ?_)
      · have hf := it_t c11 hf
        refine aw_iload_n 3 dX6_solutions_265 rfl rfl ?_
        cases hf
        exact aw_iret rfl dX6_solutions_266 aP1_rfl (Nat.le_refl _) (Nat.le_refl _)
      · have hf := it_f c11 hf
        refine aw_bipush (v := 75) dX6_solutions_74 (by decide) ?_
        refine aw_bipush (v := 25) dX6_solutions_76 (by decide) ?_
        refine aw_iload 4 dX6_solutions_78 rfl ?_
        refine aw_imul dX6_solutions_80 ?_
        refine aw_iadd dX6_solutions_81 ?_
        refine aw_topi (fun v12 ev12 => ?_)
        have hf := onm_a ev12 hf
        refine aw_istore (lv' := [(5, .int v12), (0, .ref (ad 13)), (1, .int x1), (2, .int x2), (3, .int x3), (4, .int x4)]) dX6_solutions_82 (Nat.le_of_ble_eq_true rfl) rfl ?_
        refine aw_aload_n 1 dX6_solutions_84 rfl rfl ?_
        refine aw_get (v := .ref (ad 9)) (mg_o hok) rfl in_X6 19 (by decide) q1758 (Or.inl rfl) rfl dX6_solutions_85 ?_
        refine aw_iload 5 dX6_solutions_88 rfl ?_
        obtain ⟨j13, z14, ej13, hf⟩ := ob_s hf
        refine aw_ialdj (mg_9 hok) z14 ej13 dX6_solutions_90 ?_
        refine aw_iconst (v := 1) dX6_solutions_91 (by decide) ?_
        refine aw_iadd dX6_solutions_92 ?_
        refine aw_topi (fun v15 ev15 => ?_)
        have hf := onm_a ev15 hf
        refine aw_istore (lv' := [(6, .int v15), (5, .int v12), (0, .ref (ad 13)), (1, .int x1), (2, .int x2), (3, .int x3), (4, .int x4)]) dX6_solutions_93 (Nat.le_of_ble_eq_true rfl) rfl ?_
        refine aw_sub [2, 3, 4, 5, 6, 1, 0] rfl ?_
        refine A_X6_solutions_c95 hok hl ?_ n x1 x2 x3 x4 v12 v15 st hf
        · intro y16_1 y16_2 y16_3 y16_4 y16_5 y16_6 u17 hf
          exact A_X6_solutions_j135 hok hl (fun w1 w2 w3 w4 wst hf => ih w1 w2 w3 w4 wst hf) n y16_1 y16_2 y16_3 y16_4 y16_5 y16_6 u17 hf
def S_X6_solutions (n : Nat) (x1 : Int32) (x2 : Int32) (st : MSt) : Option (Int32 × MSt) :=
  (S_X6_loads n 75 st).bind fun q1 =>
  (S_X6_allLines q1).bind fun q2 =>
  (S_X6_closes n 75 q2 q1).bind fun q3 =>
  if q3.1 = 0 then
    some (0, q3.2)
  else
    (S_X6_isDone n 75 q3.2).bind fun q5 =>
    if q5 = 0 then
      (S_X6_guess n 75 x2 q3.2).bind fun q7 =>
      onm (mA q3.2 8 0 q7) fun u8 =>
      onm (mA u8 9 0 ((-1))) fun u9 =>
      S_X6_solutions_c64 n x1 x2 0 0 u9
    else
      (S_X6_finds n 75 0 q3.2).bind fun q18 =>
      some (1, q18)
set_option maxHeartbeats 2000000 in
theorem C_X6_solutions {l : Launch} {G : aG} {ad : Nat → Nat} {h0 : aH} (hok : mOk ad) (hl : l.stackTraces = false) {n : Nat} {x1 : Int32} {x2 : Int32} {st : MSt} {r : Int32 × MSt} (hf : S_X6_solutions n x1 x2 st = some r) : aC l G mX6_solutions (ws_ yX6_solutions cX6_solutions 8 (some .int)) 5 0 0 [.ref (ad 13), .int x1, .int x2] (mh ad st h0) (aP1 (some (.int r.1)) (mh ad r.2 h0)) := by
  refine aC_of (M := mX6_solutions) rfl (by decide) (Nat.le_of_ble_eq_true rfl) hl ?_
  rw [S_X6_solutions] at hf
  refine aw_eqv (lv2 := [(0, .ref (ad 13)), (1, .int x1), (2, .int x2)]) rfl rfl rfl rfl ?_
  refine aw_aload_n 0 dX6_solutions_0 rfl rfl ?_
  refine aw_bipush (v := 75) dX6_solutions_1 (by decide) ?_
  obtain ⟨q1, eq1, hf⟩ := Option.bind_eq_some_iff.mp hf
  refine aw_callV (rest := []) (C_X6_loads hok hl eq1) (mg_o hok) rfl rfl nX6_loads q2009 q2011 qs78 q137 q2012 dX6_solutions_3 rfl (by decide) (by decide) (Nat.le_of_ble_eq_true rfl) (Nat.le_refl _) (Nat.le_refl _) (aP1_v ?_) aP1_x
  refine aw_aload_n 0 dX6_solutions_6 rfl rfl ?_
  refine aw_bipush (v := 75) dX6_solutions_7 (by decide) ?_
  refine aw_aload_n 0 dX6_solutions_9 rfl rfl ?_
  obtain ⟨q2, eq2, hf⟩ := Option.bind_eq_some_iff.mp hf
  refine aw_callV (rest := [.int 75, .ref (ad 13)]) (C_X6_allLines hok hl eq2) (mg_o hok) rfl rfl nX6_allLines q2110 q2112 qs94 q137 q2113 dX6_solutions_10 rfl (by decide) (by decide) (Nat.le_of_ble_eq_true rfl) (Nat.le_refl _) (Nat.le_refl _) (aP1_i ?_) aP1_x
  obtain ⟨q3, eq3, hf⟩ := Option.bind_eq_some_iff.mp hf
  refine aw_callV (rest := []) (C_X6_closes hok hl eq3) (mg_o hok) rfl rfl nX6_closes q2122 q2124 qs97 q137 q2125 dX6_solutions_13 rfl (by decide) (by decide) (Nat.le_of_ble_eq_true rfl) (Nat.le_refl _) (Nat.le_refl _) (aP1_i ?_) aP1_x
  refine aw_if_ne 21 dX6_solutions_16 (by decide) (fun c4 => ?_) (fun c4 => ?_)
  · have hf := it_f c4 hf
    refine aw_aload_n 0 dX6_solutions_21 rfl rfl ?_
    refine aw_bipush (v := 75) dX6_solutions_22 (by decide) ?_
    obtain ⟨q5, eq5, hf⟩ := Option.bind_eq_some_iff.mp hf
    refine aw_callV (rest := []) (C_X6_isDone hok hl eq5) (mg_o hok) rfl rfl nX6_isDone q2166 q2168 qs102 q137 q2169 dX6_solutions_24 rfl (by decide) (by decide) (Nat.le_of_ble_eq_true rfl) (Nat.le_refl _) (Nat.le_refl _) (aP1_i ?_) aP1_x
    refine aw_if_eq 39 dX6_solutions_27 (by decide) (fun c6 => ?_) (fun c6 => ?_)
    · have hf := it_t c6 hf
      refine aw_iconst (v := 0) dX6_solutions_39 (by decide) ?_
      refine aw_istore_n (lv' := [(3, .int 0), (0, .ref (ad 13)), (1, .int x1), (2, .int x2)]) dX6_solutions_40 rfl (Nat.le_of_ble_eq_true rfl) rfl ?_
      refine aw_iconst (v := 0) dX6_solutions_41 (by decide) ?_
      refine aw_istore (lv' := [(4, .int 0), (3, .int 0), (0, .ref (ad 13)), (1, .int x1), (2, .int x2)]) dX6_solutions_42 (Nat.le_of_ble_eq_true rfl) rfl ?_
      refine aw_aload_n 2 dX6_solutions_44 rfl rfl ?_
      refine aw_get (v := .ref (ad 8)) (mg_o hok) rfl in_X6 18 (by decide) q1757 (Or.inl rfl) rfl dX6_solutions_45 ?_
      refine aw_iconst (v := 0) dX6_solutions_48 (by decide) ?_
      refine aw_aload_n 2 dX6_solutions_49 rfl rfl ?_
      refine aw_bipush (v := 75) dX6_solutions_50 (by decide) ?_
      refine aw_iload_n 4 dX6_solutions_52 rfl rfl ?_
      obtain ⟨q7, eq7, hf⟩ := Option.bind_eq_some_iff.mp hf
      refine aw_callV (rest := [.int 0, .ref (ad 8)]) (C_X6_guess hok hl eq7) (mg_o hok) rfl rfl nX6_guess q2175 q2177 qs104 q137 q2178 dX6_solutions_53 rfl (by decide) (by decide) (Nat.le_of_ble_eq_true rfl) (Nat.le_refl _) (Nat.le_refl _) (aP1_i ?_) aP1_x
      refine aw_iastj (j := 0) (mg_8 hok) (vpc (by decide)) (by decide) (mu_8 hok) dX6_solutions_56 ?_
      refine aw_st (fun u8 eu8 => ?_)
      have hf := onm_a eu8 hf
      refine aw_aload_n 2 dX6_solutions_57 rfl rfl ?_
      refine aw_get (v := .ref (ad 9)) (mg_o hok) rfl in_X6 19 (by decide) q1758 (Or.inl rfl) rfl dX6_solutions_58 ?_
      refine aw_iconst (v := 0) dX6_solutions_61 (by decide) ?_
      refine aw_iconst (v := (-1)) dX6_solutions_62 (by decide) ?_
      refine aw_iastj (j := 0) (mg_9 hok) (vpc (by decide)) (by decide) (mu_9 hok) dX6_solutions_63 ?_
      refine aw_st (fun u9 eu9 => ?_)
      have hf := onm_a eu9 hf
      refine aw_sub [2, 3, 4, 1, 0] rfl ?_
      exact A_X6_solutions_c64 hok hl n x1 x2 0 0 u9 hf
    · have hf := it_f c6 hf
      refine aw_aload_n 0 dX6_solutions_30 rfl rfl ?_
      refine aw_bipush (v := 75) dX6_solutions_31 (by decide) ?_
      refine aw_iconst (v := 0) dX6_solutions_33 (by decide) ?_
      obtain ⟨q18, eq18, hf⟩ := Option.bind_eq_some_iff.mp hf
      refine aw_callV (rest := []) (C_X6_finds hok hl eq18) (mg_o hok) rfl rfl nX6_finds q2170 q2172 qs103 q137 q2173 dX6_solutions_34 rfl (by decide) (by decide) (Nat.le_of_ble_eq_true rfl) (Nat.le_refl _) (Nat.le_refl _) (aP1_v ?_) aP1_x
      refine aw_iconst (v := 1) dX6_solutions_37 (by decide) ?_
      cases hf
      exact aw_iret rfl dX6_solutions_38 aP1_rfl (Nat.le_refl _) (Nat.le_refl _)
  · have hf := it_t c4 hf
    refine aw_iconst (v := 0) dX6_solutions_19 (by decide) ?_
    cases hf
    exact aw_iret rfl dX6_solutions_20 aP1_rfl (Nat.le_refl _) (Nat.le_refl _)
abbrev mX6_solutionCount : aM := (yX6_solutionCount, cX6_solutionCount, 1, some .int, [])
theorem nX6_solutionCount : aNoMH yX6_solutionCount 0 := by decide +kernel
def S_X6_solutionCount (n : Nat) (st : MSt) : Option (Int32 × MSt) :=
  (S_X6_solutions n 200 0 st).bind fun q1 =>
  (S_X6_told q1.1 q1.2).bind fun q2 =>
  some (q2.1, q2.2)
set_option maxHeartbeats 2000000 in
theorem C_X6_solutionCount {l : Launch} {G : aG} {ad : Nat → Nat} {h0 : aH} (hok : mOk ad) (hl : l.stackTraces = false) {n : Nat} {st : MSt} {r : Int32 × MSt} (hf : S_X6_solutionCount n st = some r) : aC l G mX6_solutionCount (ws_ yX6_solutionCount cX6_solutionCount 1 (some .int)) 6 0 0 [.ref (ad 13)] (mh ad st h0) (aP1 (some (.int r.1)) (mh ad r.2 h0)) := by
  refine aC_of (M := mX6_solutionCount) rfl (by decide) (Nat.le_of_ble_eq_true rfl) hl ?_
  rw [S_X6_solutionCount] at hf
  refine aw_eqv (lv2 := [(0, .ref (ad 13))]) rfl rfl rfl rfl ?_
  refine aw_aload_n 0 dX6_solutionCount_0 rfl rfl ?_
  refine aw_aload_n 0 dX6_solutionCount_1 rfl rfl ?_
  refine aw_sipush (v := 200) dX6_solutionCount_2 (by decide) ?_
  refine aw_iconst (v := 0) dX6_solutionCount_5 (by decide) ?_
  obtain ⟨q1, eq1, hf⟩ := Option.bind_eq_some_iff.mp hf
  refine aw_callV (rest := [.ref (ad 13)]) (C_X6_solutions hok hl eq1) (mg_o hok) rfl rfl nX6_solutions q2162 q2164 qs101 q137 q2165 dX6_solutionCount_6 rfl (by decide) (by decide) (Nat.le_of_ble_eq_true rfl) (Nat.le_refl _) (Nat.le_refl _) (aP1_i ?_) aP1_x
  obtain ⟨q2, eq2, hf⟩ := Option.bind_eq_some_iff.mp hf
  refine aw_callV (rest := []) (C_X6_told hok hl eq2) (mg_o hok) rfl rfl nX6_told q1918 q1920 qs69 q137 q1921 dX6_solutionCount_9 rfl (by decide) (by decide) (Nat.le_of_ble_eq_true rfl) (Nat.le_refl _) (Nat.le_refl _) (aP1_i ?_) aP1_x
  cases hf
  exact aw_iret rfl dX6_solutionCount_12 aP1_rfl (Nat.le_refl _) (Nat.le_refl _)
abbrev mX6_standsAslant : aM := (yX6_standsAslant, cX6_standsAslant, 10, some .boolean, [])
theorem nX6_standsAslant : aNoMH yX6_standsAslant 3 := by decide +kernel
def S_X6_standsAslant_j60 (K25 : Int32 → Int32 → Int32 → Int32 → Int32 → Int32 → Int32 → Int32 → Option (Int32)) (st : MSt) (n : Nat) (x1 : Int32) (x2 : Int32) (x3 : Int32) (x4 : Int32) (x5 : Int32) (x6 : Int32) (x7 : Int32) (x8 : Int32) (xs0 : Int32) (xs1 : Int32) : Option (Int32) :=
  ob (xs1 + xs0) 605 fun j7 =>
  onm (st.2.1 3 j7) fun v9 =>
  onm (x6 ||| ((1 : Int32) <<< (v9 &&& 31))) fun v10 =>
  if v9 = x5 then
    (S_X6_flag 1).bind fun q14 =>
    onm (x7 + q14) fun v15 =>
    K25 x1 x2 x3 x4 x5 v10 v15 (x8 + 1)
  else
    (S_X6_flag 0).bind fun q12 =>
    onm (x7 + q12) fun v13 =>
    K25 x1 x2 x3 x4 x5 v10 v13 (x8 + 1)
set_option maxHeartbeats 2000000 in
theorem A_X6_standsAslant_j60 {l : Launch} {G : aG} {ad : Nat → Nat} {h0 : aH} (hok : mOk ad) (hl : l.stackTraces = false) {r : Int32} {st : MSt} {K25 : Int32 → Int32 → Int32 → Int32 → Int32 → Int32 → Int32 → Int32 → Option (Int32)} (hK25 : ∀ (w1 : Int32) (w2 : Int32) (w3 : Int32) (w4 : Int32) (w5 : Int32) (w6 : Int32) (w7 : Int32) (w8 : Int32), K25 w1 w2 w3 w4 w5 w6 w7 w8 = some r → AW l G mX6_standsAslant 1 0 0 (aP1 (some (.int r)) (mh ad st h0)) 25 [(0, .ref (ad 13)), (1, .int w1), (2, .int w2), (3, .int w3), (4, .int w4), (5, .int w5), (6, .int w6), (7, .int w7), (8, .int w8)] [] (mh ad st h0) 0 0) : ∀ (n : Nat) (x1 : Int32) (x2 : Int32) (x3 : Int32) (x4 : Int32) (x5 : Int32) (x6 : Int32) (x7 : Int32) (x8 : Int32) (xs0 : Int32) (xs1 : Int32), S_X6_standsAslant_j60 K25 st n x1 x2 x3 x4 x5 x6 x7 x8 xs0 xs1 = some r → AW l G mX6_standsAslant 1 0 0 (aP1 (some (.int r)) (mh ad st h0)) 60 [(0, .ref (ad 13)), (1, .int x1), (2, .int x2), (3, .int x3), (4, .int x4), (5, .int x5), (6, .int x6), (7, .int x7), (8, .int x8)] [.int xs0, .int xs1, .ref (ad 3)] (mh ad st h0) 0 0 := by
  intro n x1 x2 x3 x4 x5 x6 x7 x8 xs0 xs1 hf
  rw [S_X6_standsAslant_j60] at hf
  refine aw_iadd dX6_standsAslant_60 ?_
  obtain ⟨j7, z8, ej7, hf⟩ := ob_s hf
  refine aw_ialdj (mg_3 hok) z8 ej7 dX6_standsAslant_61 ?_
  refine aw_topi (fun v9 ev9 => ?_)
  have hf := onm_a ev9 hf
  refine aw_istore (lv' := [(9, .int v9), (0, .ref (ad 13)), (1, .int x1), (2, .int x2), (3, .int x3), (4, .int x4), (5, .int x5), (6, .int x6), (7, .int x7), (8, .int x8)]) dX6_standsAslant_62 (Nat.le_of_ble_eq_true rfl) rfl ?_
  refine aw_iload 7 dX6_standsAslant_64 rfl ?_
  refine aw_iconst (v := 1) dX6_standsAslant_66 (by decide) ?_
  refine aw_iload 0 dX6_standsAslant_67 rfl ?_
  refine aw_ishl dX6_standsAslant_69 ?_
  refine aw_ior dX6_standsAslant_70 ?_
  refine aw_topi (fun v10 ev10 => ?_)
  have hf := onm_a ev10 hf
  refine aw_istore (lv' := [(6, .int v10), (9, .int v9), (0, .ref (ad 13)), (1, .int x1), (2, .int x2), (3, .int x3), (4, .int x4), (5, .int x5), (7, .int x7), (8, .int x8)]) dX6_standsAslant_71 (Nat.le_of_ble_eq_true rfl) rfl ?_
  refine aw_iload 8 dX6_standsAslant_73 rfl ?_
  refine aw_iload 1 dX6_standsAslant_75 rfl ?_
  refine aw_iload 7 dX6_standsAslant_77 rfl ?_
  refine aw_icmp_ne 86 dX6_standsAslant_79 (by decide) (fun c11 => ?_) (fun c11 => ?_)
  · have hf := it_f c11 hf
    refine aw_iconst (v := 0) dX6_standsAslant_86 (by decide) ?_
    obtain ⟨q12, eq12, hf⟩ := Option.bind_eq_some_iff.mp hf
    refine aw_callS (rest := [.int x7]) (C_X6_flag hl eq12) nX6_flag q1865 q1866 q137 q1867 dX6_standsAslant_87 rfl (by decide) (by decide) (Nat.le_of_ble_eq_true rfl) (Nat.le_refl _) (Nat.le_refl _) (aP1_i ?_) aP1_x
    refine aw_iadd dX6_standsAslant_90 ?_
    refine aw_topi (fun v13 ev13 => ?_)
    have hf := onm_a ev13 hf
    refine aw_istore (lv' := [(7, .int v13), (6, .int v10), (9, .int v9), (0, .ref (ad 13)), (1, .int x1), (2, .int x2), (3, .int x3), (4, .int x4), (5, .int x5), (8, .int x8)]) dX6_standsAslant_91 (Nat.le_of_ble_eq_true rfl) rfl ?_
    refine aw_iinc 9 (v := x8 + 1) (lv' := [(8, .int (x8 + 1)), (7, .int v13), (6, .int v10), (9, .int v9), (0, .ref (ad 13)), (1, .int x1), (2, .int x2), (3, .int x3), (4, .int x4), (5, .int x5)]) dX6_standsAslant_93 rfl rfl (Nat.le_of_ble_eq_true rfl) rfl ?_
    refine aw_goto 25 dX6_standsAslant_96 (by decide) ?_
    refine aw_sub [4, 5, 6, 7, 8, 9, 2, 1, 0] rfl ?_
    exact hK25 x1 x2 x3 x4 x5 v10 v13 (x8 + 1) hf
  · have hf := it_t c11 hf
    refine aw_iconst (v := 1) dX6_standsAslant_82 (by decide) ?_
    refine aw_goto 87 dX6_standsAslant_83 (by decide) ?_
    obtain ⟨q14, eq14, hf⟩ := Option.bind_eq_some_iff.mp hf
    refine aw_callS (rest := [.int x7]) (C_X6_flag hl eq14) nX6_flag q1865 q1866 q137 q1867 dX6_standsAslant_87 rfl (by decide) (by decide) (Nat.le_of_ble_eq_true rfl) (Nat.le_refl _) (Nat.le_refl _) (aP1_i ?_) aP1_x
    refine aw_iadd dX6_standsAslant_90 ?_
    refine aw_topi (fun v15 ev15 => ?_)
    have hf := onm_a ev15 hf
    refine aw_istore (lv' := [(7, .int v15), (6, .int v10), (9, .int v9), (0, .ref (ad 13)), (1, .int x1), (2, .int x2), (3, .int x3), (4, .int x4), (5, .int x5), (8, .int x8)]) dX6_standsAslant_91 (Nat.le_of_ble_eq_true rfl) rfl ?_
    refine aw_iinc 9 (v := x8 + 1) (lv' := [(8, .int (x8 + 1)), (7, .int v15), (6, .int v10), (9, .int v9), (0, .ref (ad 13)), (1, .int x1), (2, .int x2), (3, .int x3), (4, .int x4), (5, .int x5)]) dX6_standsAslant_93 rfl rfl (Nat.le_of_ble_eq_true rfl) rfl ?_
    refine aw_goto 25 dX6_standsAslant_96 (by decide) ?_
    refine aw_sub [4, 5, 6, 7, 8, 9, 2, 1, 0] rfl ?_
    exact hK25 x1 x2 x3 x4 x5 v10 v15 (x8 + 1) hf
def S_X6_standsAslant_c25 (K99 : Int32 → Int32 → Int32 → Int32 → Int32 → Int32 → Int32 → Option (Int32)) (st : MSt) : Nat → Int32 → Int32 → Int32 → Int32 → Int32 → Int32 → Int32 → Int32 → Option (Int32)
  | 0, _, _, _, _, _, _, _, _ => none
  | n + 1, x1, x2, x3, x4, x5, x6, x7, x8 =>
    if x1 ≤ x8 then
      K99 x1 x2 x3 x4 x5 x6 x7
    else
      ob x8 27 fun j4 =>
      if x3 = 0 then
        S_X6_standsAslant_j60 (S_X6_standsAslant_c25 K99 st n) st n x1 x2 x3 x4 x5 x6 x7 x8 ((x4 - (1 : Int32)) - x8) ((5 : Int32) * (st.2.1 9 j4))
      else
        S_X6_standsAslant_j60 (S_X6_standsAslant_c25 K99 st n) st n x1 x2 x3 x4 x5 x6 x7 x8 x8 ((5 : Int32) * (st.2.1 9 j4))
set_option maxHeartbeats 2000000 in
theorem A_X6_standsAslant_c25 {l : Launch} {G : aG} {ad : Nat → Nat} {h0 : aH} (hok : mOk ad) (hl : l.stackTraces = false) {r : Int32} {st : MSt} {K99 : Int32 → Int32 → Int32 → Int32 → Int32 → Int32 → Int32 → Option (Int32)} (hK99 : ∀ (w1 : Int32) (w2 : Int32) (w3 : Int32) (w4 : Int32) (w5 : Int32) (w6 : Int32) (w7 : Int32), K99 w1 w2 w3 w4 w5 w6 w7 = some r → AW l G mX6_standsAslant 1 0 0 (aP1 (some (.int r)) (mh ad st h0)) 99 [(0, .ref (ad 13)), (1, .int w1), (2, .int w2), (3, .int w3), (4, .int w4), (5, .int w5), (6, .int w6), (7, .int w7)] [] (mh ad st h0) 0 0) : ∀ (n : Nat) (x1 : Int32) (x2 : Int32) (x3 : Int32) (x4 : Int32) (x5 : Int32) (x6 : Int32) (x7 : Int32) (x8 : Int32), S_X6_standsAslant_c25 K99 st n x1 x2 x3 x4 x5 x6 x7 x8 = some r → AW l G mX6_standsAslant 1 0 0 (aP1 (some (.int r)) (mh ad st h0)) 25 [(0, .ref (ad 13)), (1, .int x1), (2, .int x2), (3, .int x3), (4, .int x4), (5, .int x5), (6, .int x6), (7, .int x7), (8, .int x8)] [] (mh ad st h0) 0 0 := by
  intro n
  induction n with
  | zero =>
    intro x1 x2 x3 x4 x5 x6 x7 x8 hf
    rw [S_X6_standsAslant_c25] at hf
    cases hf
  | succ n ih =>
    intro x1 x2 x3 x4 x5 x6 x7 x8 hf
    rw [S_X6_standsAslant_c25] at hf
    refine aw_iload 8 dX6_standsAslant_25 rfl ?_
    refine aw_iload_n 1 dX6_standsAslant_27 rfl rfl ?_
    refine aw_icmp_ge 99 dX6_standsAslant_28 (by decide) (fun c3 => ?_) (fun c3 => ?_)
    · have hf := it_t c3 hf
      refine aw_sub [0, 1, 2, 3, 4, 5, 6, 7] rfl ?_
      exact hK99 x1 x2 x3 x4 x5 x6 x7 hf
    · have hf := it_f c3 hf
      refine aw_aload_n 0 dX6_standsAslant_31 rfl rfl ?_
      refine aw_get (v := .ref (ad 3)) (mg_o hok) rfl in_X6 13 (by decide) q1752 (Or.inl rfl) rfl dX6_standsAslant_32 ?_
      refine aw_iconst (v := 5) dX6_standsAslant_35 (by decide) ?_
      refine aw_aload_n 0 dX6_standsAslant_36 rfl rfl ?_
      refine aw_get (v := .ref (ad 9)) (mg_o hok) rfl in_X6 19 (by decide) q1758 (Or.inl rfl) rfl dX6_standsAslant_37 ?_
      refine aw_iload 8 dX6_standsAslant_40 rfl ?_
      obtain ⟨j4, z5, ej4, hf⟩ := ob_s hf
      refine aw_ialdj (mg_9 hok) z5 ej4 dX6_standsAslant_42 ?_
      refine aw_imul dX6_standsAslant_43 ?_
      refine aw_iload_n 3 dX6_standsAslant_44 rfl rfl ?_
      refine aw_if_eq 53 dX6_standsAslant_45 (by decide) (fun c6 => ?_) (fun c6 => ?_)
      · have hf := it_t c6 hf
        refine aw_iload 4 dX6_standsAslant_53 rfl ?_
        refine aw_iconst (v := 1) dX6_standsAslant_55 (by decide) ?_
        refine aw_isub dX6_standsAslant_56 ?_
        refine aw_iload 8 dX6_standsAslant_57 rfl ?_
        refine aw_isub dX6_standsAslant_59 ?_
        exact A_X6_standsAslant_j60 hok hl (fun w1 w2 w3 w4 w5 w6 w7 w8 hf => ih w1 w2 w3 w4 w5 w6 w7 w8 hf) n x1 x2 x3 x4 x5 x6 x7 x8 ((x4 - (1 : Int32)) - x8) ((5 : Int32) * (st.2.1 9 j4)) hf
      · have hf := it_f c6 hf
        refine aw_iload 8 dX6_standsAslant_48 rfl ?_
        refine aw_goto 60 dX6_standsAslant_50 (by decide) ?_
        exact A_X6_standsAslant_j60 hok hl (fun w1 w2 w3 w4 w5 w6 w7 w8 hf => ih w1 w2 w3 w4 w5 w6 w7 w8 hf) n x1 x2 x3 x4 x5 x6 x7 x8 x8 ((5 : Int32) * (st.2.1 9 j4)) hf
def S_X6_standsAslant_j120 (st : MSt) (n : Nat) (x4 : Int32) (x5 : Int32) (x6 : Int32) (x7 : Int32) (xs0 : Int32) (xs1 : Int32) : Option (Int32) :=
  ob (xs1 + xs0) 605 fun j10 =>
  onm (st.2.1 3 j10) fun v12 =>
  if v12 = x5 then
    if (x4 - x5) ≤ x7 then
      some 0
    else
      some 1
  else
    (S_X6_has x6 v12).bind fun q14 =>
    if q14 = 0 then
      some 1
    else
      some 0
set_option maxHeartbeats 2000000 in
theorem A_X6_standsAslant_j120 {l : Launch} {G : aG} {ad : Nat → Nat} {h0 : aH} (hok : mOk ad) (hl : l.stackTraces = false) {r : Int32} {st : MSt} : ∀ (n : Nat) (x4 : Int32) (x5 : Int32) (x6 : Int32) (x7 : Int32) (xs0 : Int32) (xs1 : Int32), S_X6_standsAslant_j120 st n x4 x5 x6 x7 xs0 xs1 = some r → AW l G mX6_standsAslant 1 0 0 (aP1 (some (.int r)) (mh ad st h0)) 120 [(4, .int x4), (5, .int x5), (6, .int x6), (7, .int x7)] [.int xs0, .int xs1, .ref (ad 3)] (mh ad st h0) 0 0 := by
  intro n x4 x5 x6 x7 xs0 xs1 hf
  rw [S_X6_standsAslant_j120] at hf
  refine aw_iadd dX6_standsAslant_120 ?_
  obtain ⟨j10, z11, ej10, hf⟩ := ob_s hf
  refine aw_ialdj (mg_3 hok) z11 ej10 dX6_standsAslant_121 ?_
  refine aw_topi (fun v12 ev12 => ?_)
  have hf := onm_a ev12 hf
  refine aw_istore (lv' := [(8, .int v12), (4, .int x4), (5, .int x5), (6, .int x6), (7, .int x7)]) dX6_standsAslant_122 (Nat.le_of_ble_eq_true rfl) rfl ?_
  refine aw_iload 0 dX6_standsAslant_124 rfl ?_
  refine aw_iload 2 dX6_standsAslant_126 rfl ?_
  refine aw_icmp_ne 149 dX6_standsAslant_128 (by decide) (fun c13 => ?_) (fun c13 => ?_)
  · have hf := it_f c13 hf
    refine aw_iload 3 dX6_standsAslant_149 rfl ?_
    refine aw_iload 0 dX6_standsAslant_151 rfl ?_
    obtain ⟨q14, eq14, hf⟩ := Option.bind_eq_some_iff.mp hf
    refine aw_callS (rest := []) (C_X6_has hl eq14) nX6_has q1903 q1904 q137 q1905 dX6_standsAslant_153 rfl (by decide) (by decide) (Nat.le_of_ble_eq_true rfl) (Nat.le_refl _) (Nat.le_refl _) (aP1_i ?_) aP1_x
    refine aw_if_ne 163 dX6_standsAslant_156 (by decide) (fun c15 => ?_) (fun c15 => ?_)
    · have hf := it_f c15 hf
      refine aw_iconst (v := 0) dX6_standsAslant_163 (by decide) ?_
      cases hf
      exact aw_zret rfl rfl dX6_standsAslant_164 aP1_rfl (Nat.le_refl _) (Nat.le_refl _)
    · have hf := it_t c15 hf
      refine aw_iconst (v := 1) dX6_standsAslant_159 (by decide) ?_
      refine aw_goto 164 dX6_standsAslant_160 (by decide) ?_
      cases hf
      exact aw_zret rfl rfl dX6_standsAslant_164 aP1_rfl (Nat.le_refl _) (Nat.le_refl _)
  · have hf := it_t c13 hf
    refine aw_iload 4 dX6_standsAslant_131 rfl ?_
    refine aw_iload 1 dX6_standsAslant_133 rfl ?_
    refine aw_iload 2 dX6_standsAslant_135 rfl ?_
    refine aw_isub dX6_standsAslant_137 ?_
    refine aw_icmp_ge 145 dX6_standsAslant_138 (by decide) (fun c16 => ?_) (fun c16 => ?_)
    · have hf := it_t c16 hf
      refine aw_iconst (v := 0) dX6_standsAslant_145 (by decide) ?_
      refine aw_goto 164 dX6_standsAslant_146 (by decide) ?_
      cases hf
      exact aw_zret rfl rfl dX6_standsAslant_164 aP1_rfl (Nat.le_refl _) (Nat.le_refl _)
    · have hf := it_f c16 hf
      refine aw_iconst (v := 1) dX6_standsAslant_141 (by decide) ?_
      refine aw_goto 164 dX6_standsAslant_142 (by decide) ?_
      cases hf
      exact aw_zret rfl rfl dX6_standsAslant_164 aP1_rfl (Nat.le_refl _) (Nat.le_refl _)
def S_X6_standsAslant (n : Nat) (x1 : Int32) (x2 : Int32) (x3 : Int32) (st : MSt) : Option (Int32) :=
  onm (st.2.1 0 0) fun v1 =>
  onm (st.2.1 0 1) fun v2 =>
  S_X6_standsAslant_c25
    (fun y7_1 y7_2 y7_3 y7_4 y7_5 y7_6 y7_7 => 
        if y7_3 = 0 then
          S_X6_standsAslant_j120 st n y7_4 y7_5 y7_6 y7_7 ((y7_4 - (1 : Int32)) - y7_1) ((5 : Int32) * y7_2)
        else
          S_X6_standsAslant_j120 st n y7_4 y7_5 y7_6 y7_7 y7_1 ((5 : Int32) * y7_2))
     st n x1 x2 x3 v1 v2 0 0 0
set_option maxHeartbeats 2000000 in
theorem C_X6_standsAslant {l : Launch} {G : aG} {ad : Nat → Nat} {h0 : aH} (hok : mOk ad) (hl : l.stackTraces = false) {n : Nat} {x1 : Int32} {x2 : Int32} {x3 : Int32} {st : MSt} {r : Int32} (hf : S_X6_standsAslant n x1 x2 x3 st = some r) : aC l G mX6_standsAslant (ws_ yX6_standsAslant cX6_standsAslant 10 (some .boolean)) 1 0 0 [.ref (ad 13), .int x1, .int x2, .int x3] (mh ad st h0) (aP1 (some (.int r)) (mh ad st h0)) := by
  refine aC_of (M := mX6_standsAslant) rfl (by decide) (Nat.le_of_ble_eq_true rfl) hl ?_
  rw [S_X6_standsAslant] at hf
  refine aw_eqv (lv2 := [(0, .ref (ad 13)), (1, .int x1), (2, .int x2), (3, .int x3)]) rfl rfl rfl rfl ?_
  refine aw_aload_n 0 dX6_standsAslant_0 rfl rfl ?_
  refine aw_get (v := .ref (ad 0)) (mg_o hok) rfl in_X6 0 (by decide) q1739 (Or.inl rfl) rfl dX6_standsAslant_1 ?_
  refine aw_iconst (v := 0) dX6_standsAslant_4 (by decide) ?_
  refine aw_ialdj (j := 0) (mg_0 hok) (vpc (by decide)) (by decide) dX6_standsAslant_5 ?_
  refine aw_topi (fun v1 ev1 => ?_)
  have hf := onm_a ev1 hf
  refine aw_istore (lv' := [(4, .int v1), (0, .ref (ad 13)), (1, .int x1), (2, .int x2), (3, .int x3)]) dX6_standsAslant_6 (Nat.le_of_ble_eq_true rfl) rfl ?_
  refine aw_aload_n 1 dX6_standsAslant_8 rfl rfl ?_
  refine aw_get (v := .ref (ad 0)) (mg_o hok) rfl in_X6 0 (by decide) q1739 (Or.inl rfl) rfl dX6_standsAslant_9 ?_
  refine aw_iconst (v := 1) dX6_standsAslant_12 (by decide) ?_
  refine aw_ialdj (j := 1) (mg_0 hok) (vpc (by decide)) (by decide) dX6_standsAslant_13 ?_
  refine aw_topi (fun v2 ev2 => ?_)
  have hf := onm_a ev2 hf
  refine aw_istore (lv' := [(5, .int v2), (4, .int v1), (0, .ref (ad 13)), (1, .int x1), (2, .int x2), (3, .int x3)]) dX6_standsAslant_14 (Nat.le_of_ble_eq_true rfl) rfl ?_
  refine aw_iconst (v := 0) dX6_standsAslant_16 (by decide) ?_
  refine aw_istore (lv' := [(6, .int 0), (5, .int v2), (4, .int v1), (0, .ref (ad 13)), (1, .int x1), (2, .int x2), (3, .int x3)]) dX6_standsAslant_17 (Nat.le_of_ble_eq_true rfl) rfl ?_
  refine aw_iconst (v := 0) dX6_standsAslant_19 (by decide) ?_
  refine aw_istore (lv' := [(7, .int 0), (6, .int 0), (5, .int v2), (4, .int v1), (0, .ref (ad 13)), (1, .int x1), (2, .int x2), (3, .int x3)]) dX6_standsAslant_20 (Nat.le_of_ble_eq_true rfl) rfl ?_
  refine aw_iconst (v := 0) dX6_standsAslant_22 (by decide) ?_
  refine aw_istore (lv' := [(8, .int 0), (7, .int 0), (6, .int 0), (5, .int v2), (4, .int v1), (0, .ref (ad 13)), (1, .int x1), (2, .int x2), (3, .int x3)]) dX6_standsAslant_23 (Nat.le_of_ble_eq_true rfl) rfl ?_
  refine aw_sub [5, 6, 7, 8, 4, 3, 2, 1, 0] rfl ?_
  refine A_X6_standsAslant_c25 hok hl ?_ n x1 x2 x3 v1 v2 0 0 0 hf
  · intro y7_1 y7_2 y7_3 y7_4 y7_5 y7_6 y7_7 hf
    refine aw_aload_n 0 dX6_standsAslant_99 rfl rfl ?_
    refine aw_get (v := .ref (ad 3)) (mg_o hok) rfl in_X6 13 (by decide) q1752 (Or.inl rfl) rfl dX6_standsAslant_100 ?_
    refine aw_iconst (v := 5) dX6_standsAslant_103 (by decide) ?_
    refine aw_iload_n 2 dX6_standsAslant_104 rfl rfl ?_
    refine aw_imul dX6_standsAslant_105 ?_
    refine aw_iload_n 3 dX6_standsAslant_106 rfl rfl ?_
    refine aw_if_eq 114 dX6_standsAslant_107 (by decide) (fun c9 => ?_) (fun c9 => ?_)
    · have hf := it_t c9 hf
      refine aw_iload 4 dX6_standsAslant_114 rfl ?_
      refine aw_iconst (v := 1) dX6_standsAslant_116 (by decide) ?_
      refine aw_isub dX6_standsAslant_117 ?_
      refine aw_iload_n 1 dX6_standsAslant_118 rfl rfl ?_
      refine aw_isub dX6_standsAslant_119 ?_
      refine aw_sub [4, 5, 6, 7] rfl ?_
      exact A_X6_standsAslant_j120 hok hl n y7_4 y7_5 y7_6 y7_7 ((y7_4 - (1 : Int32)) - y7_1) ((5 : Int32) * y7_2) hf
    · have hf := it_f c9 hf
      refine aw_iload_n 1 dX6_standsAslant_110 rfl rfl ?_
      refine aw_goto 120 dX6_standsAslant_111 (by decide) ?_
      refine aw_sub [4, 5, 6, 7] rfl ?_
      exact A_X6_standsAslant_j120 hok hl n y7_4 y7_5 y7_6 y7_7 y7_1 ((5 : Int32) * y7_2) hf
abbrev mX6_stands : aM := (yX6_stands, cX6_stands, 9, some .boolean, [])
theorem nX6_stands : aNoMH yX6_stands 2 := by decide +kernel
def S_X6_stands_c30 (K66 : Int32 → Int32 → Int32 → Int32 → Int32 → Int32 → Option (Int32)) (st : MSt) : Nat → Int32 → Int32 → Int32 → Int32 → Int32 → Int32 → Int32 → Option (Int32)
  | 0, _, _, _, _, _, _, _ => none
  | n + 1, x1, x2, x3, x4, x5, x6, x7 =>
    if x1 ≤ x7 then
      K66 x1 x2 x3 x4 x5 x6
    else
      ob x7 27 fun j5 =>
      ob (((5 : Int32) * (st.2.1 9 j5)) + x5) 605 fun j7 =>
      onm (x6 ||| ((1 : Int32) <<< ((st.2.1 3 j7) &&& 31))) fun v9 =>
      S_X6_stands_c30 K66 st n x1 x2 x3 x4 x5 v9 (x7 + 1)
set_option maxHeartbeats 2000000 in
theorem A_X6_stands_c30 {l : Launch} {G : aG} {ad : Nat → Nat} {h0 : aH} (hok : mOk ad) (hl : l.stackTraces = false) {r : Int32} {st : MSt} {K66 : Int32 → Int32 → Int32 → Int32 → Int32 → Int32 → Option (Int32)} (hK66 : ∀ (w1 : Int32) (w2 : Int32) (w3 : Int32) (w4 : Int32) (w5 : Int32) (w6 : Int32), K66 w1 w2 w3 w4 w5 w6 = some r → AW l G mX6_stands 2 0 0 (aP1 (some (.int r)) (mh ad st h0)) 66 [(0, .ref (ad 13)), (1, .int w1), (2, .int w2), (3, .int w3), (4, .int w4), (5, .int w5), (6, .int w6)] [] (mh ad st h0) 0 0) : ∀ (n : Nat) (x1 : Int32) (x2 : Int32) (x3 : Int32) (x4 : Int32) (x5 : Int32) (x6 : Int32) (x7 : Int32), S_X6_stands_c30 K66 st n x1 x2 x3 x4 x5 x6 x7 = some r → AW l G mX6_stands 2 0 0 (aP1 (some (.int r)) (mh ad st h0)) 30 [(0, .ref (ad 13)), (1, .int x1), (2, .int x2), (3, .int x3), (4, .int x4), (5, .int x5), (6, .int x6), (7, .int x7)] [] (mh ad st h0) 0 0 := by
  intro n
  induction n with
  | zero =>
    intro x1 x2 x3 x4 x5 x6 x7 hf
    rw [S_X6_stands_c30] at hf
    cases hf
  | succ n ih =>
    intro x1 x2 x3 x4 x5 x6 x7 hf
    rw [S_X6_stands_c30] at hf
    refine aw_iload 7 dX6_stands_30 rfl ?_
    refine aw_iload_n 1 dX6_stands_32 rfl rfl ?_
    refine aw_icmp_ge 66 dX6_stands_33 (by decide) (fun c4 => ?_) (fun c4 => ?_)
    · have hf := it_t c4 hf
      refine aw_sub [0, 1, 2, 3, 4, 5, 6] rfl ?_
      exact hK66 x1 x2 x3 x4 x5 x6 hf
    · have hf := it_f c4 hf
      refine aw_iload 6 dX6_stands_36 rfl ?_
      refine aw_iconst (v := 1) dX6_stands_38 (by decide) ?_
      refine aw_aload_n 0 dX6_stands_39 rfl rfl ?_
      refine aw_get (v := .ref (ad 3)) (mg_o hok) rfl in_X6 13 (by decide) q1752 (Or.inl rfl) rfl dX6_stands_40 ?_
      refine aw_iconst (v := 5) dX6_stands_43 (by decide) ?_
      refine aw_aload_n 0 dX6_stands_44 rfl rfl ?_
      refine aw_get (v := .ref (ad 9)) (mg_o hok) rfl in_X6 19 (by decide) q1758 (Or.inl rfl) rfl dX6_stands_45 ?_
      refine aw_iload 7 dX6_stands_48 rfl ?_
      obtain ⟨j5, z6, ej5, hf⟩ := ob_s hf
      refine aw_ialdj (mg_9 hok) z6 ej5 dX6_stands_50 ?_
      refine aw_imul dX6_stands_51 ?_
      refine aw_iload 5 dX6_stands_52 rfl ?_
      refine aw_iadd dX6_stands_54 ?_
      obtain ⟨j7, z8, ej7, hf⟩ := ob_s hf
      refine aw_ialdj (mg_3 hok) z8 ej7 dX6_stands_55 ?_
      refine aw_ishl dX6_stands_56 ?_
      refine aw_ior dX6_stands_57 ?_
      refine aw_topi (fun v9 ev9 => ?_)
      have hf := onm_a ev9 hf
      refine aw_istore (lv' := [(6, .int v9), (0, .ref (ad 13)), (1, .int x1), (2, .int x2), (3, .int x3), (4, .int x4), (5, .int x5), (7, .int x7)]) dX6_stands_58 (Nat.le_of_ble_eq_true rfl) rfl ?_
      refine aw_iinc 7 (v := x7 + 1) (lv' := [(7, .int (x7 + 1)), (6, .int v9), (0, .ref (ad 13)), (1, .int x1), (2, .int x2), (3, .int x3), (4, .int x4), (5, .int x5)]) dX6_stands_60 rfl rfl (Nat.le_of_ble_eq_true rfl) rfl ?_
      refine aw_goto 30 dX6_stands_63 (by decide) ?_
      refine aw_sub [2, 3, 4, 5, 6, 7, 1, 0] rfl ?_
      exact ih x1 x2 x3 x4 x5 v9 (x7 + 1) hf
def S_X6_stands_c18 (K174 : Int32 → Int32 → Option (Int32)) (st : MSt) : Nat → Int32 → Int32 → Int32 → Int32 → Int32 → Option (Int32)
  | 0, _, _, _, _, _ => none
  | n + 1, x1, x2, x3, x4, x5 =>
    if x3 ≤ x5 then
      K174 x1 x2
    else
      S_X6_stands_c30
        (fun y4_1 y4_2 y4_3 y4_4 y4_5 y4_6 => 
            ob (((5 : Int32) * y4_2) + y4_5) 605 fun j6 =>
            onm (st.2.1 3 j6) fun v8 =>
            (S_X6_many n (y4_6 &&& (((1 : Int32) <<< (y4_4 &&& 31)) - (1 : Int32)))).bind fun q9 =>
            if v8 = y4_4 then
              if (y4_1 - q9) < (y4_3 - y4_4) then
                S_X6_stands_c18 K174 st n y4_1 y4_2 y4_3 y4_4 (y4_5 + 1)
              else
                some 0
            else
              (S_X6_has y4_6 v8).bind fun q11 =>
              if q11 = 0 then
                (S_X6_tellingOf (y4_3 + y4_5) 0 st).bind fun q13 =>
                (S_X6_isInOrder q13 v8 q9).bind fun q14 =>
                if q14 = 0 then
                  some 0
                else
                  (S_X6_tellingOf (y4_3 + y4_5) 1 st).bind fun q16 =>
                  (S_X6_isInOrder q16 v8 ((y4_4 - (1 : Int32)) - q9)).bind fun q17 =>
                  if q17 = 0 then
                    some 0
                  else
                    S_X6_stands_c18 K174 st n y4_1 y4_2 y4_3 y4_4 (y4_5 + 1)
              else
                some 0)
         st n x1 x2 x3 x4 x5 0 0
set_option maxHeartbeats 2000000 in
theorem A_X6_stands_c18 {l : Launch} {G : aG} {ad : Nat → Nat} {h0 : aH} (hok : mOk ad) (hl : l.stackTraces = false) {r : Int32} {st : MSt} {K174 : Int32 → Int32 → Option (Int32)} (hK174 : ∀ (w1 : Int32) (w2 : Int32), K174 w1 w2 = some r → AW l G mX6_stands 2 0 0 (aP1 (some (.int r)) (mh ad st h0)) 174 [(0, .ref (ad 13)), (1, .int w1), (2, .int w2)] [] (mh ad st h0) 0 0) : ∀ (n : Nat) (x1 : Int32) (x2 : Int32) (x3 : Int32) (x4 : Int32) (x5 : Int32), S_X6_stands_c18 K174 st n x1 x2 x3 x4 x5 = some r → AW l G mX6_stands 2 0 0 (aP1 (some (.int r)) (mh ad st h0)) 18 [(0, .ref (ad 13)), (1, .int x1), (2, .int x2), (3, .int x3), (4, .int x4), (5, .int x5)] [] (mh ad st h0) 0 0 := by
  intro n
  induction n with
  | zero =>
    intro x1 x2 x3 x4 x5 hf
    rw [S_X6_stands_c18] at hf
    cases hf
  | succ n ih =>
    intro x1 x2 x3 x4 x5 hf
    rw [S_X6_stands_c18] at hf
    refine aw_iload 5 dX6_stands_18 rfl ?_
    refine aw_iload_n 3 dX6_stands_20 rfl rfl ?_
    refine aw_icmp_ge 174 dX6_stands_21 (by decide) (fun c3 => ?_) (fun c3 => ?_)
    · have hf := it_t c3 hf
      refine aw_sub [0, 1, 2] rfl ?_
      exact hK174 x1 x2 hf
    · have hf := it_f c3 hf
      refine aw_iconst (v := 0) dX6_stands_24 (by decide) ?_
      refine aw_istore (lv' := [(6, .int 0), (0, .ref (ad 13)), (1, .int x1), (2, .int x2), (3, .int x3), (4, .int x4), (5, .int x5)]) dX6_stands_25 (Nat.le_of_ble_eq_true rfl) rfl ?_
      refine aw_iconst (v := 0) dX6_stands_27 (by decide) ?_
      refine aw_istore (lv' := [(7, .int 0), (6, .int 0), (0, .ref (ad 13)), (1, .int x1), (2, .int x2), (3, .int x3), (4, .int x4), (5, .int x5)]) dX6_stands_28 (Nat.le_of_ble_eq_true rfl) rfl ?_
      refine aw_sub [2, 3, 4, 5, 6, 7, 1, 0] rfl ?_
      refine A_X6_stands_c30 hok hl ?_ n x1 x2 x3 x4 x5 0 0 hf
      · intro y4_1 y4_2 y4_3 y4_4 y4_5 y4_6 hf
        refine aw_aload_n 0 dX6_stands_66 rfl rfl ?_
        refine aw_get (v := .ref (ad 3)) (mg_o hok) rfl in_X6 13 (by decide) q1752 (Or.inl rfl) rfl dX6_stands_67 ?_
        refine aw_iconst (v := 5) dX6_stands_70 (by decide) ?_
        refine aw_iload_n 2 dX6_stands_71 rfl rfl ?_
        refine aw_imul dX6_stands_72 ?_
        refine aw_iload 5 dX6_stands_73 rfl ?_
        refine aw_iadd dX6_stands_75 ?_
        obtain ⟨j6, z7, ej6, hf⟩ := ob_s hf
        refine aw_ialdj (mg_3 hok) z7 ej6 dX6_stands_76 ?_
        refine aw_topi (fun v8 ev8 => ?_)
        have hf := onm_a ev8 hf
        refine aw_istore (lv' := [(7, .int v8), (0, .ref (ad 13)), (1, .int y4_1), (2, .int y4_2), (3, .int y4_3), (4, .int y4_4), (5, .int y4_5), (6, .int y4_6)]) dX6_stands_77 (Nat.le_of_ble_eq_true rfl) rfl ?_
        refine aw_iload 7 dX6_stands_79 rfl ?_
        refine aw_iconst (v := 1) dX6_stands_81 (by decide) ?_
        refine aw_iload 5 dX6_stands_82 rfl ?_
        refine aw_ishl dX6_stands_84 ?_
        refine aw_iconst (v := 1) dX6_stands_85 (by decide) ?_
        refine aw_isub dX6_stands_86 ?_
        refine aw_iand dX6_stands_87 ?_
        obtain ⟨q9, eq9, hf⟩ := Option.bind_eq_some_iff.mp hf
        refine aw_callS (rest := []) (C_X6_many hl eq9) nX6_many q1998 q1999 q137 q2000 dX6_stands_88 rfl (by decide) (by decide) (Nat.le_of_ble_eq_true rfl) (Nat.le_refl _) (Nat.le_refl _) (aP1_i ?_) aP1_x
        refine aw_istore (lv' := [(8, .int q9), (7, .int v8), (0, .ref (ad 13)), (1, .int y4_1), (2, .int y4_2), (3, .int y4_3), (4, .int y4_4), (5, .int y4_5), (6, .int y4_6)]) dX6_stands_91 (Nat.le_of_ble_eq_true rfl) rfl ?_
        refine aw_iload 1 dX6_stands_93 rfl ?_
        refine aw_iload 6 dX6_stands_95 rfl ?_
        refine aw_icmp_ne 113 dX6_stands_97 (by decide) (fun c10 => ?_) (fun c10 => ?_)
        · have hf := it_f c10 hf
          refine aw_iload 8 dX6_stands_113 rfl ?_
          refine aw_iload 1 dX6_stands_115 rfl ?_
          obtain ⟨q11, eq11, hf⟩ := Option.bind_eq_some_iff.mp hf
          refine aw_callS (rest := []) (C_X6_has hl eq11) nX6_has q1903 q1904 q137 q1905 dX6_stands_117 rfl (by decide) (by decide) (Nat.le_of_ble_eq_true rfl) (Nat.le_refl _) (Nat.le_refl _) (aP1_i ?_) aP1_x
          refine aw_if_ne 166 dX6_stands_120 (by decide) (fun c12 => ?_) (fun c12 => ?_)
          · have hf := it_f c12 hf
            refine aw_iconst (v := 0) dX6_stands_166 (by decide) ?_
            cases hf
            exact aw_zret rfl rfl dX6_stands_167 aP1_rfl (Nat.le_refl _) (Nat.le_refl _)
          · have hf := it_t c12 hf
            refine aw_aload_n 2 dX6_stands_123 rfl rfl ?_
            refine aw_iload_n 5 dX6_stands_124 rfl rfl ?_
            refine aw_iload 7 dX6_stands_125 rfl ?_
            refine aw_iadd dX6_stands_127 ?_
            refine aw_iconst (v := 0) dX6_stands_128 (by decide) ?_
            obtain ⟨q13, eq13, hf⟩ := Option.bind_eq_some_iff.mp hf
            refine aw_callV (rest := []) (C_X6_tellingOf hok hl eq13) (mg_o hok) rfl rfl nX6_tellingOf q2025 q2027 qs82 q137 q2028 dX6_stands_129 rfl (by decide) (by decide) (Nat.le_of_ble_eq_true rfl) (Nat.le_refl _) (Nat.le_refl _) (aP1_i ?_) aP1_x
            refine aw_iload 1 dX6_stands_132 rfl ?_
            refine aw_iload 0 dX6_stands_134 rfl ?_
            obtain ⟨q14, eq14, hf⟩ := Option.bind_eq_some_iff.mp hf
            refine aw_callS (rest := []) (C_X6_isInOrder hl eq14) nX6_isInOrder q2052 q2053 q137 q2054 dX6_stands_136 rfl (by decide) (by decide) (Nat.le_of_ble_eq_true rfl) (Nat.le_refl _) (Nat.le_refl _) (aP1_i ?_) aP1_x
            refine aw_if_eq 166 dX6_stands_139 (by decide) (fun c15 => ?_) (fun c15 => ?_)
            · have hf := it_t c15 hf
              refine aw_iconst (v := 0) dX6_stands_166 (by decide) ?_
              cases hf
              exact aw_zret rfl rfl dX6_stands_167 aP1_rfl (Nat.le_refl _) (Nat.le_refl _)
            · have hf := it_f c15 hf
              refine aw_aload_n 2 dX6_stands_142 rfl rfl ?_
              refine aw_iload_n 5 dX6_stands_143 rfl rfl ?_
              refine aw_iload 7 dX6_stands_144 rfl ?_
              refine aw_iadd dX6_stands_146 ?_
              refine aw_iconst (v := 1) dX6_stands_147 (by decide) ?_
              obtain ⟨q16, eq16, hf⟩ := Option.bind_eq_some_iff.mp hf
              refine aw_callV (rest := []) (C_X6_tellingOf hok hl eq16) (mg_o hok) rfl rfl nX6_tellingOf q2025 q2027 qs82 q137 q2028 dX6_stands_148 rfl (by decide) (by decide) (Nat.le_of_ble_eq_true rfl) (Nat.le_refl _) (Nat.le_refl _) (aP1_i ?_) aP1_x
              refine aw_iload 1 dX6_stands_151 rfl ?_
              refine aw_iload 6 dX6_stands_153 rfl ?_
              refine aw_iconst (v := 1) dX6_stands_155 (by decide) ?_
              refine aw_isub dX6_stands_156 ?_
              refine aw_iload 0 dX6_stands_157 rfl ?_
              refine aw_isub dX6_stands_159 ?_
              obtain ⟨q17, eq17, hf⟩ := Option.bind_eq_some_iff.mp hf
              refine aw_callS (rest := []) (C_X6_isInOrder hl eq17) nX6_isInOrder q2052 q2053 q137 q2054 dX6_stands_160 rfl (by decide) (by decide) (Nat.le_of_ble_eq_true rfl) (Nat.le_refl _) (Nat.le_refl _) (aP1_i ?_) aP1_x
              refine aw_if_ne 168 dX6_stands_163 (by decide) (fun c18 => ?_) (fun c18 => ?_)
              · have hf := it_f c18 hf
                refine aw_iinc 7 (v := y4_5 + 1) (lv' := [(5, .int (y4_5 + 1)), (8, .int q9), (7, .int v8), (0, .ref (ad 13)), (1, .int y4_1), (2, .int y4_2), (3, .int y4_3), (4, .int y4_4), (6, .int y4_6)]) dX6_stands_168 rfl rfl (Nat.le_of_ble_eq_true rfl) rfl ?_
                refine aw_goto 18 dX6_stands_171 (by decide) ?_
                refine aw_sub [3, 4, 5, 6, 7, 0] rfl ?_
                exact ih y4_1 y4_2 y4_3 y4_4 (y4_5 + 1) hf
              · have hf := it_t c18 hf
                refine aw_iconst (v := 0) dX6_stands_166 (by decide) ?_
                cases hf
                exact aw_zret rfl rfl dX6_stands_167 aP1_rfl (Nat.le_refl _) (Nat.le_refl _)
        · have hf := it_t c10 hf
          refine aw_iload_n 3 dX6_stands_100 rfl rfl ?_
          refine aw_iload 0 dX6_stands_101 rfl ?_
          refine aw_isub dX6_stands_103 ?_
          refine aw_iload_n 5 dX6_stands_104 rfl rfl ?_
          refine aw_iload 6 dX6_stands_105 rfl ?_
          refine aw_isub dX6_stands_107 ?_
          refine aw_icmp_lt 168 dX6_stands_108 (by decide) (fun c19 => ?_) (fun c19 => ?_)
          · have hf := it_t c19 hf
            refine aw_iinc 7 (v := y4_5 + 1) (lv' := [(5, .int (y4_5 + 1)), (8, .int q9), (7, .int v8), (0, .ref (ad 13)), (1, .int y4_1), (2, .int y4_2), (3, .int y4_3), (4, .int y4_4), (6, .int y4_6)]) dX6_stands_168 rfl rfl (Nat.le_of_ble_eq_true rfl) rfl ?_
            refine aw_goto 18 dX6_stands_171 (by decide) ?_
            refine aw_sub [3, 4, 5, 6, 7, 0] rfl ?_
            exact ih y4_1 y4_2 y4_3 y4_4 (y4_5 + 1) hf
          · have hf := it_f c19 hf
            refine aw_iconst (v := 0) dX6_stands_111 (by decide) ?_
            cases hf
            exact aw_zret rfl rfl dX6_stands_112 aP1_rfl (Nat.le_refl _) (Nat.le_refl _)
def S_X6_stands (n : Nat) (x1 : Int32) (x2 : Int32) (st : MSt) : Option (Int32) :=
  onm (st.2.1 0 0) fun v1 =>
  onm (st.2.1 0 1) fun v2 =>
  S_X6_stands_c18
    (fun y20_1 y20_2 => 
        if (st.2.1 0 2) = 0 then
          some 1
        else
          (S_X6_standsAslant n y20_1 y20_2 1 st).bind fun q23 =>
          if q23 = 0 then
            some 0
          else
            (S_X6_standsAslant n y20_1 y20_2 0 st).bind fun q25 =>
            if q25 = 0 then
              some 0
            else
              some 1)
     st n x1 x2 v1 v2 0
set_option maxHeartbeats 2000000 in
theorem C_X6_stands {l : Launch} {G : aG} {ad : Nat → Nat} {h0 : aH} (hok : mOk ad) (hl : l.stackTraces = false) {n : Nat} {x1 : Int32} {x2 : Int32} {st : MSt} {r : Int32} (hf : S_X6_stands n x1 x2 st = some r) : aC l G mX6_stands (ws_ yX6_stands cX6_stands 9 (some .boolean)) 2 0 0 [.ref (ad 13), .int x1, .int x2] (mh ad st h0) (aP1 (some (.int r)) (mh ad st h0)) := by
  refine aC_of (M := mX6_stands) rfl (by decide) (Nat.le_of_ble_eq_true rfl) hl ?_
  rw [S_X6_stands] at hf
  refine aw_eqv (lv2 := [(0, .ref (ad 13)), (1, .int x1), (2, .int x2)]) rfl rfl rfl rfl ?_
  refine aw_aload_n 0 dX6_stands_0 rfl rfl ?_
  refine aw_get (v := .ref (ad 0)) (mg_o hok) rfl in_X6 0 (by decide) q1739 (Or.inl rfl) rfl dX6_stands_1 ?_
  refine aw_iconst (v := 0) dX6_stands_4 (by decide) ?_
  refine aw_ialdj (j := 0) (mg_0 hok) (vpc (by decide)) (by decide) dX6_stands_5 ?_
  refine aw_topi (fun v1 ev1 => ?_)
  have hf := onm_a ev1 hf
  refine aw_istore_n (lv' := [(3, .int v1), (0, .ref (ad 13)), (1, .int x1), (2, .int x2)]) dX6_stands_6 rfl (Nat.le_of_ble_eq_true rfl) rfl ?_
  refine aw_aload_n 1 dX6_stands_7 rfl rfl ?_
  refine aw_get (v := .ref (ad 0)) (mg_o hok) rfl in_X6 0 (by decide) q1739 (Or.inl rfl) rfl dX6_stands_8 ?_
  refine aw_iconst (v := 1) dX6_stands_11 (by decide) ?_
  refine aw_ialdj (j := 1) (mg_0 hok) (vpc (by decide)) (by decide) dX6_stands_12 ?_
  refine aw_topi (fun v2 ev2 => ?_)
  have hf := onm_a ev2 hf
  refine aw_istore (lv' := [(4, .int v2), (3, .int v1), (0, .ref (ad 13)), (1, .int x1), (2, .int x2)]) dX6_stands_13 (Nat.le_of_ble_eq_true rfl) rfl ?_
  refine aw_iconst (v := 0) dX6_stands_15 (by decide) ?_
  refine aw_istore (lv' := [(5, .int 0), (4, .int v2), (3, .int v1), (0, .ref (ad 13)), (1, .int x1), (2, .int x2)]) dX6_stands_16 (Nat.le_of_ble_eq_true rfl) rfl ?_
  refine aw_sub [3, 4, 5, 2, 1, 0] rfl ?_
  refine A_X6_stands_c18 hok hl ?_ n x1 x2 v1 v2 0 hf
  · intro y20_1 y20_2 hf
    refine aw_aload_n 0 dX6_stands_174 rfl rfl ?_
    refine aw_get (v := .ref (ad 0)) (mg_o hok) rfl in_X6 0 (by decide) q1739 (Or.inl rfl) rfl dX6_stands_175 ?_
    refine aw_iconst (v := 2) dX6_stands_178 (by decide) ?_
    refine aw_ialdj (j := 2) (mg_0 hok) (vpc (by decide)) (by decide) dX6_stands_179 ?_
    refine aw_if_eq 203 dX6_stands_180 (by decide) (fun c22 => ?_) (fun c22 => ?_)
    · have hf := it_t c22 hf
      refine aw_iconst (v := 1) dX6_stands_203 (by decide) ?_
      refine aw_goto 208 dX6_stands_204 (by decide) ?_
      cases hf
      exact aw_zret rfl rfl dX6_stands_208 aP1_rfl (Nat.le_refl _) (Nat.le_refl _)
    · have hf := it_f c22 hf
      refine aw_aload_n 0 dX6_stands_183 rfl rfl ?_
      refine aw_iload_n 1 dX6_stands_184 rfl rfl ?_
      refine aw_iload_n 2 dX6_stands_185 rfl rfl ?_
      refine aw_iconst (v := 1) dX6_stands_186 (by decide) ?_
      obtain ⟨q23, eq23, hf⟩ := Option.bind_eq_some_iff.mp hf
      refine aw_callV (rest := []) (C_X6_standsAslant hok hl eq23) (mg_o hok) rfl rfl nX6_standsAslant q2191 q2193 qs107 q137 q2194 dX6_stands_187 rfl (by decide) (by decide) (Nat.le_of_ble_eq_true rfl) (Nat.le_refl _) (Nat.le_refl _) (aP1_i ?_) aP1_x
      refine aw_if_eq 207 dX6_stands_190 (by decide) (fun c24 => ?_) (fun c24 => ?_)
      · have hf := it_t c24 hf
        refine aw_iconst (v := 0) dX6_stands_207 (by decide) ?_
        cases hf
        exact aw_zret rfl rfl dX6_stands_208 aP1_rfl (Nat.le_refl _) (Nat.le_refl _)
      · have hf := it_f c24 hf
        refine aw_aload_n 0 dX6_stands_193 rfl rfl ?_
        refine aw_iload_n 1 dX6_stands_194 rfl rfl ?_
        refine aw_iload_n 2 dX6_stands_195 rfl rfl ?_
        refine aw_iconst (v := 0) dX6_stands_196 (by decide) ?_
        obtain ⟨q25, eq25, hf⟩ := Option.bind_eq_some_iff.mp hf
        refine aw_callV (rest := []) (C_X6_standsAslant hok hl eq25) (mg_o hok) rfl rfl nX6_standsAslant q2191 q2193 qs107 q137 q2194 dX6_stands_197 rfl (by decide) (by decide) (Nat.le_of_ble_eq_true rfl) (Nat.le_refl _) (Nat.le_refl _) (aP1_i ?_) aP1_x
        refine aw_if_eq 207 dX6_stands_200 (by decide) (fun c26 => ?_) (fun c26 => ?_)
        · have hf := it_t c26 hf
          refine aw_iconst (v := 0) dX6_stands_207 (by decide) ?_
          cases hf
          exact aw_zret rfl rfl dX6_stands_208 aP1_rfl (Nat.le_refl _) (Nat.le_refl _)
        · have hf := it_f c26 hf
          refine aw_iconst (v := 1) dX6_stands_203 (by decide) ?_
          refine aw_goto 208 dX6_stands_204 (by decide) ?_
          cases hf
          exact aw_zret rfl rfl dX6_stands_208 aP1_rfl (Nat.le_refl _) (Nat.le_refl _)
