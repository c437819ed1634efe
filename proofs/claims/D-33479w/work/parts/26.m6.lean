/-! the model: shallow functions and walks (printed by gen.py) -/
set_option maxRecDepth 100000
abbrev mX6_breaks : aM := (yX6_breaks, cX6_breaks, 5, some .boolean, [])
theorem nX6_breaks : aNoMH yX6_breaks 4 := by decide +kernel
def S_X6_breaks (n : Nat) (x1 : Int32) (x2 : Int32) (x3 : Int32) (x4 : Int32) (st : MSt) : Option (Int32 × MSt) :=
  (S_X6_layers n x1 50 st).bind fun q1 =>
  ob ((50 : Int32) + x2) 750 fun j2 =>
  onm (mA q1 5 j2 ((1 : Int32) <<< (x3 &&& 31))) fun u4 =>
  (S_X6_closes n 50 x4 u4).bind fun q5 =>
  if q5.1 = 0 then
    some (1, q5.2)
  else
    some (0, q5.2)
set_option maxHeartbeats 2000000 in
theorem C_X6_breaks {l : Launch} {G : aG} {ad : Nat → Nat} {h0 : aH} (hok : mOk ad) (hl : l.stackTraces = false) {n : Nat} {x1 : Int32} {x2 : Int32} {x3 : Int32} {x4 : Int32} {st : MSt} {r : Int32 × MSt} (hf : S_X6_breaks n x1 x2 x3 x4 st = some r) : aC l G mX6_breaks (ws_ yX6_breaks cX6_breaks 5 (some .boolean)) 5 0 0 [.ref (ad 13), .int x1, .int x2, .int x3, .int x4] (mh ad st h0) (aP1 (some (.int r.1)) (mh ad r.2 h0)) := by
  refine aC_of (M := mX6_breaks) rfl (by decide) (Nat.le_of_ble_eq_true rfl) hl ?_
  rw [S_X6_breaks] at hf
  refine aw_eqv (lv2 := [(0, .ref (ad 13)), (1, .int x1), (2, .int x2), (3, .int x3), (4, .int x4)]) rfl rfl rfl rfl ?_
  refine aw_aload_n 0 dX6_breaks_0 rfl rfl ?_
  refine aw_iload_n 1 dX6_breaks_1 rfl rfl ?_
  refine aw_bipush (v := 50) dX6_breaks_2 (by decide) ?_
  obtain ⟨q1, eq1, hf⟩ := Option.bind_eq_some_iff.mp hf
  refine aw_callV (rest := []) (C_X6_layers hok hl eq1) (mg_o hok) rfl rfl nX6_layers q2118 q2120 qs96 q137 q2121 dX6_breaks_4 rfl (by decide) (by decide) (Nat.le_of_ble_eq_true rfl) (Nat.le_refl _) (Nat.le_refl _) (aP1_v ?_) aP1_x
  refine aw_aload_n 0 dX6_breaks_7 rfl rfl ?_
  refine aw_get (v := .ref (ad 5)) (mg_o hok) rfl in_X6 15 (by decide) q1754 (Or.inl rfl) rfl dX6_breaks_8 ?_
  refine aw_bipush (v := 50) dX6_breaks_11 (by decide) ?_
  refine aw_iload_n 2 dX6_breaks_13 rfl rfl ?_
  refine aw_iadd dX6_breaks_14 ?_
  refine aw_iconst (v := 1) dX6_breaks_15 (by decide) ?_
  refine aw_iload_n 3 dX6_breaks_16 rfl rfl ?_
  refine aw_ishl dX6_breaks_17 ?_
  obtain ⟨j2, z3, ej2, hf⟩ := ob_s hf
  refine aw_iastj (mg_5 hok) z3 ej2 (mu_5 hok) dX6_breaks_18 ?_
  refine aw_st (fun u4 eu4 => ?_)
  have hf := onm_a eu4 hf
  refine aw_aload_n 0 dX6_breaks_19 rfl rfl ?_
  refine aw_bipush (v := 50) dX6_breaks_20 (by decide) ?_
  refine aw_iload 4 dX6_breaks_22 rfl ?_
  obtain ⟨q5, eq5, hf⟩ := Option.bind_eq_some_iff.mp hf
  refine aw_callV (rest := []) (C_X6_closes hok hl eq5) (mg_o hok) rfl rfl nX6_closes q2122 q2124 qs97 q137 q2125 dX6_breaks_24 rfl (by decide) (by decide) (Nat.le_of_ble_eq_true rfl) (Nat.le_refl _) (Nat.le_refl _) (aP1_i ?_) aP1_x
  refine aw_if_ne 34 dX6_breaks_27 (by decide) (fun c6 => ?_) (fun c6 => ?_)
  · have hf := it_f c6 hf
    refine aw_iconst (v := 0) dX6_breaks_34 (by decide) ?_
    cases hf
    exact aw_zret rfl rfl dX6_breaks_35 aP1_rfl (Nat.le_refl _) (Nat.le_refl _)
  · have hf := it_t c6 hf
    refine aw_iconst (v := 1) dX6_breaks_30 (by decide) ?_
    refine aw_goto 35 dX6_breaks_31 (by decide) ?_
    cases hf
    exact aw_zret rfl rfl dX6_breaks_35 aP1_rfl (Nat.le_refl _) (Nat.le_refl _)
abbrev mX6_reason : aM := (yX6_reason, cX6_reason, 5, some .int, [])
theorem nX6_reason : aNoMH yX6_reason 2 := by decide +kernel
def S_X6_reason_c44 (K72 : Int32 → Int32 → MSt → Option (Int32 × MSt)) : Nat → Int32 → Int32 → Int32 → MSt → Option (Int32 × MSt)
  | 0, _, _, _, _ => none
  | n + 1, x1, x2, x4, st =>
    if 6 ≤ x4 then
      K72 x1 x2 st
    else
      (S_X6_holds n x4 0 x1 x2 st).bind fun q12 =>
      if q12 = 0 then
        S_X6_reason_c44 K72 n x1 x2 (x4 + 1) st
      else
        some (x4, st)
set_option maxHeartbeats 2000000 in
theorem A_X6_reason_c44 {l : Launch} {G : aG} {ad : Nat → Nat} {h0 : aH} (hok : mOk ad) (hl : l.stackTraces = false) {r : Int32 × MSt} {K72 : Int32 → Int32 → MSt → Option (Int32 × MSt)} (hK72 : ∀ (w1 : Int32) (w2 : Int32) (st : MSt), K72 w1 w2 st = some r → AW l G mX6_reason 6 0 0 (aP1 (some (.int r.1)) (mh ad r.2 h0)) 72 [(0, .ref (ad 13)), (1, .int w1), (2, .int w2)] [] (mh ad st h0) 0 0) : ∀ (n : Nat) (x1 : Int32) (x2 : Int32) (x4 : Int32) (st : MSt), S_X6_reason_c44 K72 n x1 x2 x4 st = some r → AW l G mX6_reason 6 0 0 (aP1 (some (.int r.1)) (mh ad r.2 h0)) 44 [(0, .ref (ad 13)), (1, .int x1), (2, .int x2), (4, .int x4)] [] (mh ad st h0) 0 0 := by
  intro n
  induction n with
  | zero =>
    intro x1 x2 x4 st hf
    rw [S_X6_reason_c44] at hf
    cases hf
  | succ n ih =>
    intro x1 x2 x4 st hf
    rw [S_X6_reason_c44] at hf
    refine aw_iload 3 dX6_reason_44 rfl ?_
    refine aw_bipush (v := 6) dX6_reason_46 (by decide) ?_
    refine aw_icmp_ge 72 dX6_reason_48 (by decide) (fun c11 => ?_) (fun c11 => ?_)
    · have hf := it_t c11 hf
      refine aw_sub [0, 1, 2] rfl ?_
      exact hK72 x1 x2 st hf
    · have hf := it_f c11 hf
      refine aw_aload_n 0 dX6_reason_51 rfl rfl ?_
      refine aw_iload 3 dX6_reason_52 rfl ?_
      refine aw_iconst (v := 0) dX6_reason_54 (by decide) ?_
      refine aw_iload_n 1 dX6_reason_55 rfl rfl ?_
      refine aw_iload_n 2 dX6_reason_56 rfl rfl ?_
      obtain ⟨q12, eq12, hf⟩ := Option.bind_eq_some_iff.mp hf
      refine aw_callV (rest := []) (C_X6_holds hok hl eq12) (mg_o hok) rfl rfl nX6_holds q2078 q2080 qs86 q137 q2081 dX6_reason_57 rfl (by decide) (by decide) (Nat.le_of_ble_eq_true rfl) (Nat.le_refl _) (Nat.le_refl _) (aP1_i ?_) aP1_x
      refine aw_if_eq 66 dX6_reason_60 (by decide) (fun c13 => ?_) (fun c13 => ?_)
      · have hf := it_t c13 hf
        refine aw_iinc 3 (v := x4 + 1) (lv' := [(4, .int (x4 + 1)), (0, .ref (ad 13)), (1, .int x1), (2, .int x2)]) dX6_reason_66 rfl rfl (Nat.le_of_ble_eq_true rfl) rfl ?_
        refine aw_goto 44 dX6_reason_69 (by decide) ?_
        refine aw_sub [1, 2, 3, 0] rfl ?_
        exact ih x1 x2 (x4 + 1) st hf
      · have hf := it_f c13 hf
        refine aw_iload 3 dX6_reason_63 rfl ?_
        cases hf
        exact aw_iret rfl dX6_reason_65 aP1_rfl (Nat.le_refl _) (Nat.le_refl _)
def S_X6_reason (n : Nat) (x1 : Int32) (x2 : Int32) (st : MSt) : Option (Int32 × MSt) :=
  (S_X6_loads n 0 st).bind fun q1 =>
  ob ((23 : Int32) + x1) 432 fun j2 =>
  onm (q1.2.1 0 j2) fun v4 =>
  (S_X6_has v4 x2).bind fun q5 =>
  if q5 = 0 then
    some (0, q1)
  else
    (S_X6_isSettled n v4 q1).bind fun q7 =>
    if q7 = 0 then
      (S_X6_looksAtAll n 0 q1).bind fun q9 =>
      if q9.1 = 0 then
        S_X6_reason_c44
          (fun y14_1 y14_2 u15 => 
              (S_X6_allLines u15).bind fun q16 =>
              (S_X6_breaks n 0 y14_1 y14_2 q16 u15).bind fun q17 =>
              if q17.1 = 0 then
                some (0, q17.2)
              else
                some (6, q17.2))
           n x1 x2 1 q9.2
      else
        some (0, q9.2)
    else
      some (0, q1)
set_option maxHeartbeats 2000000 in
theorem C_X6_reason {l : Launch} {G : aG} {ad : Nat → Nat} {h0 : aH} (hok : mOk ad) (hl : l.stackTraces = false) {n : Nat} {x1 : Int32} {x2 : Int32} {st : MSt} {r : Int32 × MSt} (hf : S_X6_reason n x1 x2 st = some r) : aC l G mX6_reason (ws_ yX6_reason cX6_reason 5 (some .int)) 6 0 0 [.ref (ad 13), .int x1, .int x2] (mh ad st h0) (aP1 (some (.int r.1)) (mh ad r.2 h0)) := by
  refine aC_of (M := mX6_reason) rfl (by decide) (Nat.le_of_ble_eq_true rfl) hl ?_
  rw [S_X6_reason] at hf
  refine aw_eqv (lv2 := [(0, .ref (ad 13)), (1, .int x1), (2, .int x2)]) rfl rfl rfl rfl ?_
  refine aw_aload_n 0 dX6_reason_0 rfl rfl ?_
  refine aw_iconst (v := 0) dX6_reason_1 (by decide) ?_
  obtain ⟨q1, eq1, hf⟩ := Option.bind_eq_some_iff.mp hf
  refine aw_callV (rest := []) (C_X6_loads hok hl eq1) (mg_o hok) rfl rfl nX6_loads q2009 q2011 qs78 q137 q2012 dX6_reason_2 rfl (by decide) (by decide) (Nat.le_of_ble_eq_true rfl) (Nat.le_refl _) (Nat.le_refl _) (aP1_v ?_) aP1_x
  refine aw_aload_n 0 dX6_reason_5 rfl rfl ?_
  refine aw_get (v := .ref (ad 0)) (mg_o hok) rfl in_X6 0 (by decide) q1739 (Or.inl rfl) rfl dX6_reason_6 ?_
  refine aw_bipush (v := 23) dX6_reason_9 (by decide) ?_
  refine aw_iload_n 1 dX6_reason_11 rfl rfl ?_
  refine aw_iadd dX6_reason_12 ?_
  obtain ⟨j2, z3, ej2, hf⟩ := ob_s hf
  refine aw_ialdj (mg_0 hok) z3 ej2 dX6_reason_13 ?_
  refine aw_topi (fun v4 ev4 => ?_)
  have hf := onm_a ev4 hf
  refine aw_istore_n (lv' := [(3, .int v4), (0, .ref (ad 13)), (1, .int x1), (2, .int x2)]) dX6_reason_14 rfl (Nat.le_of_ble_eq_true rfl) rfl ?_
  refine aw_iload_n 0 dX6_reason_15 rfl rfl ?_
  refine aw_iload_n 3 dX6_reason_16 rfl rfl ?_
  obtain ⟨q5, eq5, hf⟩ := Option.bind_eq_some_iff.mp hf
  refine aw_callS (rest := []) (C_X6_has hl eq5) nX6_has q1903 q1904 q137 q1905 dX6_reason_17 rfl (by decide) (by decide) (Nat.le_of_ble_eq_true rfl) (Nat.le_refl _) (Nat.le_refl _) (aP1_i ?_) aP1_x
  refine aw_if_eq 39 dX6_reason_20 (by decide) (fun c6 => ?_) (fun c6 => ?_)
  · have hf := it_t c6 hf
    refine aw_iconst (v := 0) dX6_reason_39 (by decide) ?_
    cases hf
    exact aw_iret rfl dX6_reason_40 aP1_rfl (Nat.le_refl _) (Nat.le_refl _)
  · have hf := it_f c6 hf
    refine aw_aload_n 1 dX6_reason_23 rfl rfl ?_
    refine aw_iload_n 0 dX6_reason_24 rfl rfl ?_
    obtain ⟨q7, eq7, hf⟩ := Option.bind_eq_some_iff.mp hf
    refine aw_callV (rest := []) (C_X6_isSettled hok hl eq7) (mg_o hok) rfl rfl nX6_isSettled q1994 q1996 qs76 q137 q1997 dX6_reason_25 rfl (by decide) (by decide) (Nat.le_of_ble_eq_true rfl) (Nat.le_refl _) (Nat.le_refl _) (aP1_i ?_) aP1_x
    refine aw_if_ne 39 dX6_reason_28 (by decide) (fun c8 => ?_) (fun c8 => ?_)
    · have hf := it_f c8 hf
      refine aw_iconst (v := 0) dX6_reason_39 (by decide) ?_
      cases hf
      exact aw_iret rfl dX6_reason_40 aP1_rfl (Nat.le_refl _) (Nat.le_refl _)
    · have hf := it_t c8 hf
      refine aw_aload_n 1 dX6_reason_31 rfl rfl ?_
      refine aw_iconst (v := 0) dX6_reason_32 (by decide) ?_
      obtain ⟨q9, eq9, hf⟩ := Option.bind_eq_some_iff.mp hf
      refine aw_callV (rest := []) (C_X6_looksAtAll hok hl eq9) (mg_o hok) rfl rfl nX6_looksAtAll q2013 q2015 qs79 q137 q2016 dX6_reason_33 rfl (by decide) (by decide) (Nat.le_of_ble_eq_true rfl) (Nat.le_refl _) (Nat.le_refl _) (aP1_i ?_) aP1_x
      refine aw_if_eq 41 dX6_reason_36 (by decide) (fun c10 => ?_) (fun c10 => ?_)
      · have hf := it_t c10 hf
        refine aw_iconst (v := 1) dX6_reason_41 (by decide) ?_
        refine aw_istore (lv' := [(4, .int 1), (3, .int v4), (0, .ref (ad 13)), (1, .int x1), (2, .int x2)]) dX6_reason_42 (Nat.le_of_ble_eq_true rfl) rfl ?_
        refine aw_sub [2, 3, 4, 0] rfl ?_
        refine A_X6_reason_c44 hok hl ?_ n x1 x2 1 q9.2 hf
        · intro y14_1 y14_2 u15 hf
          refine aw_aload_n 0 dX6_reason_72 rfl rfl ?_
          refine aw_iconst (v := 0) dX6_reason_73 (by decide) ?_
          refine aw_iload_n 1 dX6_reason_74 rfl rfl ?_
          refine aw_iload_n 2 dX6_reason_75 rfl rfl ?_
          refine aw_aload_n 0 dX6_reason_76 rfl rfl ?_
          obtain ⟨q16, eq16, hf⟩ := Option.bind_eq_some_iff.mp hf
          refine aw_callV (rest := [.int y14_2, .int y14_1, .int 0, .ref (ad 13)]) (C_X6_allLines hok hl eq16) (mg_o hok) rfl rfl nX6_allLines q2110 q2112 qs94 q137 q2113 dX6_reason_77 rfl (by decide) (by decide) (Nat.le_of_ble_eq_true rfl) (Nat.le_refl _) (Nat.le_refl _) (aP1_i ?_) aP1_x
          obtain ⟨q17, eq17, hf⟩ := Option.bind_eq_some_iff.mp hf
          refine aw_callV (rest := []) (C_X6_breaks hok hl eq17) (mg_o hok) rfl rfl nX6_breaks q2114 q2116 qs95 q137 q2117 dX6_reason_80 rfl (by decide) (by decide) (Nat.le_of_ble_eq_true rfl) (Nat.le_refl _) (Nat.le_refl _) (aP1_i ?_) aP1_x
          refine aw_if_eq 91 dX6_reason_83 (by decide) (fun c18 => ?_) (fun c18 => ?_)
          · have hf := it_t c18 hf
            refine aw_iconst (v := 0) dX6_reason_91 (by decide) ?_
            cases hf
            exact aw_iret rfl dX6_reason_92 aP1_rfl (Nat.le_refl _) (Nat.le_refl _)
          · have hf := it_f c18 hf
            refine aw_bipush (v := 6) dX6_reason_86 (by decide) ?_
            refine aw_goto 92 dX6_reason_88 (by decide) ?_
            cases hf
            exact aw_iret rfl dX6_reason_92 aP1_rfl (Nat.le_refl _) (Nat.le_refl _)
      · have hf := it_f c10 hf
        refine aw_iconst (v := 0) dX6_reason_39 (by decide) ?_
        cases hf
        exact aw_iret rfl dX6_reason_40 aP1_rfl (Nat.le_refl _) (Nat.le_refl _)
abbrev mX6_reasonFor : aM := (yX6_reasonFor, cX6_reasonFor, 3, some .int, [])
theorem nX6_reasonFor : aNoMH yX6_reasonFor 2 := by decide +kernel
def S_X6_reasonFor (n : Nat) (x1 : Int32) (x2 : Int32) (st : MSt) : Option (Int32 × MSt) :=
  (S_X6_isCell x1 st).bind fun q1 =>
  (S_X6_isThing x2 st).bind fun q2 =>
  (S_X6_goes q1 q2 1 st).bind fun q3 =>
  if q3.1 = 0 then
    some (0, q3.2)
  else
    (S_X6_reason n x1 x2 q3.2).bind fun q5 =>
    some (q5.1, q5.2)
set_option maxHeartbeats 2000000 in
theorem C_X6_reasonFor {l : Launch} {G : aG} {ad : Nat → Nat} {h0 : aH} (hok : mOk ad) (hl : l.stackTraces = false) {n : Nat} {x1 : Int32} {x2 : Int32} {st : MSt} {r : Int32 × MSt} (hf : S_X6_reasonFor n x1 x2 st = some r) : aC l G mX6_reasonFor (ws_ yX6_reasonFor cX6_reasonFor 3 (some .int)) 7 0 0 [.ref (ad 13), .int x1, .int x2] (mh ad st h0) (aP1 (some (.int r.1)) (mh ad r.2 h0)) := by
  refine aC_of (M := mX6_reasonFor) rfl (by decide) (Nat.le_of_ble_eq_true rfl) hl ?_
  rw [S_X6_reasonFor] at hf
  refine aw_eqv (lv2 := [(0, .ref (ad 13)), (1, .int x1), (2, .int x2)]) rfl rfl rfl rfl ?_
  refine aw_aload_n 0 dX6_reasonFor_0 rfl rfl ?_
  refine aw_aload_n 0 dX6_reasonFor_1 rfl rfl ?_
  refine aw_iload_n 1 dX6_reasonFor_2 rfl rfl ?_
  obtain ⟨q1, eq1, hf⟩ := Option.bind_eq_some_iff.mp hf
  refine aw_callV (rest := [.ref (ad 13)]) (C_X6_isCell hok hl eq1) (mg_o hok) rfl rfl nX6_isCell q1962 q1964 qs73 q137 q1965 dX6_reasonFor_3 rfl (by decide) (by decide) (Nat.le_of_ble_eq_true rfl) (Nat.le_refl _) (Nat.le_refl _) (aP1_i ?_) aP1_x
  refine aw_aload_n 0 dX6_reasonFor_6 rfl rfl ?_
  refine aw_iload_n 2 dX6_reasonFor_7 rfl rfl ?_
  obtain ⟨q2, eq2, hf⟩ := Option.bind_eq_some_iff.mp hf
  refine aw_callV (rest := [.int q1, .ref (ad 13)]) (C_X6_isThing hok hl eq2) (mg_o hok) rfl rfl nX6_isThing q1966 q1968 qs74 q137 q1969 dX6_reasonFor_8 rfl (by decide) (by decide) (Nat.le_of_ble_eq_true rfl) (Nat.le_refl _) (Nat.le_refl _) (aP1_i ?_) aP1_x
  refine aw_iconst (v := 1) dX6_reasonFor_11 (by decide) ?_
  obtain ⟨q3, eq3, hf⟩ := Option.bind_eq_some_iff.mp hf
  refine aw_callV (rest := []) (C_X6_goes hok hl eq3) (mg_o hok) rfl rfl nX6_goes q1825 q1827 qs55 q137 q1828 dX6_reasonFor_12 rfl (by decide) (by decide) (Nat.le_of_ble_eq_true rfl) (Nat.le_refl _) (Nat.le_refl _) (aP1_i ?_) aP1_x
  refine aw_if_eq 27 dX6_reasonFor_15 (by decide) (fun c4 => ?_) (fun c4 => ?_)
  · have hf := it_t c4 hf
    refine aw_iconst (v := 0) dX6_reasonFor_27 (by decide) ?_
    cases hf
    exact aw_iret rfl dX6_reasonFor_28 aP1_rfl (Nat.le_refl _) (Nat.le_refl _)
  · have hf := it_f c4 hf
    refine aw_aload_n 0 dX6_reasonFor_18 rfl rfl ?_
    refine aw_iload_n 1 dX6_reasonFor_19 rfl rfl ?_
    refine aw_iload_n 2 dX6_reasonFor_20 rfl rfl ?_
    obtain ⟨q5, eq5, hf⟩ := Option.bind_eq_some_iff.mp hf
    refine aw_callV (rest := []) (C_X6_reason hok hl eq5) (mg_o hok) rfl rfl nX6_reason q2074 q2076 qs85 q137 q2077 dX6_reasonFor_21 rfl (by decide) (by decide) (Nat.le_of_ble_eq_true rfl) (Nat.le_refl _) (Nat.le_refl _) (aP1_i ?_) aP1_x
    refine aw_goto 28 dX6_reasonFor_24 (by decide) ?_
    cases hf
    exact aw_iret rfl dX6_reasonFor_28 aP1_rfl (Nat.le_refl _) (Nat.le_refl _)
abbrev mX6_next : aM := (yX6_next, cX6_next, 7, some .int, [])
theorem nX6_next : aNoMH yX6_next 2 := by decide +kernel
def S_X6_next_c43 (K92 : Int32 → Int32 → Int32 → MSt → Option (Int32 × MSt)) (K113 : Int32 → Int32 → Int32 → MSt → Option (Int32 × MSt)) (K134 : Int32 → Int32 → Int32 → Int32 → MSt → Option (Int32 × MSt)) : Nat → Int32 → Int32 → Int32 → Int32 → Int32 → Int32 → MSt → Option (Int32 × MSt)
  | 0, _, _, _, _, _, _, _ => none
  | n + 1, x1, x2, x3, x4, x5, x6, st =>
    if (st.2.1 0 1) < x6 then
      K134 x1 x2 x3 x4 st
    else
      (S_X6_isSettled n x5 st).bind fun q10 =>
      if q10 = 0 then
        (S_X6_has x5 x6).bind fun q12 =>
        if q12 = 0 then
          S_X6_next_c43 K92 K113 K134 n x1 x2 x3 x4 x5 (x6 + 1) st
        else
          if 6 ≤ x3 then
            (S_X6_linesOf x4 st).bind fun q15 =>
            (S_X6_breaks n x1 x4 x6 q15 st).bind fun q16 =>
            if q16.1 = 0 then
              S_X6_next_c43 K92 K113 K134 n x1 x2 x3 x4 x5 (x6 + 1) q16.2
            else
              K113 x3 x4 x6 q16.2
          else
            (S_X6_holds n x3 x1 x4 x6 st).bind fun q18 =>
            if q18 = 0 then
              S_X6_next_c43 K92 K113 K134 n x1 x2 x3 x4 x5 (x6 + 1) st
            else
              K92 x3 x4 x6 st
      else
        K134 x1 x2 x3 x4 st
set_option maxHeartbeats 2000000 in
theorem A_X6_next_c43 {l : Launch} {G : aG} {ad : Nat → Nat} {h0 : aH} (hok : mOk ad) (hl : l.stackTraces = false) {r : Int32 × MSt} {K92 : Int32 → Int32 → Int32 → MSt → Option (Int32 × MSt)} (hK92 : ∀ (w3 : Int32) (w4 : Int32) (w6 : Int32) (st : MSt), K92 w3 w4 w6 st = some r → AW l G mX6_next 6 0 0 (aP1 (some (.int r.1)) (mh ad r.2 h0)) 92 [(3, .int w3), (4, .int w4), (6, .int w6)] [] (mh ad st h0) 0 0) {K113 : Int32 → Int32 → Int32 → MSt → Option (Int32 × MSt)} (hK113 : ∀ (w3 : Int32) (w4 : Int32) (w6 : Int32) (st : MSt), K113 w3 w4 w6 st = some r → AW l G mX6_next 6 0 0 (aP1 (some (.int r.1)) (mh ad r.2 h0)) 113 [(3, .int w3), (4, .int w4), (6, .int w6)] [] (mh ad st h0) 0 0) {K134 : Int32 → Int32 → Int32 → Int32 → MSt → Option (Int32 × MSt)} (hK134 : ∀ (w1 : Int32) (w2 : Int32) (w3 : Int32) (w4 : Int32) (st : MSt), K134 w1 w2 w3 w4 st = some r → AW l G mX6_next 6 0 0 (aP1 (some (.int r.1)) (mh ad r.2 h0)) 134 [(0, .ref (ad 13)), (1, .int w1), (2, .int w2), (3, .int w3), (4, .int w4)] [] (mh ad st h0) 0 0) : ∀ (n : Nat) (x1 : Int32) (x2 : Int32) (x3 : Int32) (x4 : Int32) (x5 : Int32) (x6 : Int32) (st : MSt), S_X6_next_c43 K92 K113 K134 n x1 x2 x3 x4 x5 x6 st = some r → AW l G mX6_next 6 0 0 (aP1 (some (.int r.1)) (mh ad r.2 h0)) 43 [(0, .ref (ad 13)), (1, .int x1), (2, .int x2), (3, .int x3), (4, .int x4), (5, .int x5), (6, .int x6)] [] (mh ad st h0) 0 0 := by
  intro n
  induction n with
  | zero =>
    intro x1 x2 x3 x4 x5 x6 st hf
    rw [S_X6_next_c43] at hf
    cases hf
  | succ n ih =>
    intro x1 x2 x3 x4 x5 x6 st hf
    rw [S_X6_next_c43] at hf
    refine aw_iload 6 dX6_next_43 rfl ?_
    refine aw_aload_n 0 dX6_next_45 rfl rfl ?_
    refine aw_get (v := .ref (ad 0)) (mg_o hok) rfl in_X6 0 (by decide) q1739 (Or.inl rfl) rfl dX6_next_46 ?_
    refine aw_iconst (v := 1) dX6_next_49 (by decide) ?_
    refine aw_ialdj (j := 1) (mg_0 hok) (vpc (by decide)) (by decide) dX6_next_50 ?_
    refine aw_icmp_gt 134 dX6_next_51 (by decide) (fun c9 => ?_) (fun c9 => ?_)
    · have hf := it_t c9 hf
      refine aw_sub [0, 1, 2, 3, 4] rfl ?_
      exact hK134 x1 x2 x3 x4 st hf
    · have hf := it_f c9 hf
      refine aw_aload_n 0 dX6_next_54 rfl rfl ?_
      refine aw_iload 5 dX6_next_55 rfl ?_
      obtain ⟨q10, eq10, hf⟩ := Option.bind_eq_some_iff.mp hf
      refine aw_callV (rest := []) (C_X6_isSettled hok hl eq10) (mg_o hok) rfl rfl nX6_isSettled q1994 q1996 qs76 q137 q1997 dX6_next_57 rfl (by decide) (by decide) (Nat.le_of_ble_eq_true rfl) (Nat.le_refl _) (Nat.le_refl _) (aP1_i ?_) aP1_x
      refine aw_if_ne 134 dX6_next_60 (by decide) (fun c11 => ?_) (fun c11 => ?_)
      · have hf := it_f c11 hf
        refine aw_sub [0, 1, 2, 3, 4] rfl ?_
        exact hK134 x1 x2 x3 x4 st hf
      · have hf := it_t c11 hf
        refine aw_iload 5 dX6_next_63 rfl ?_
        refine aw_iload 6 dX6_next_65 rfl ?_
        obtain ⟨q12, eq12, hf⟩ := Option.bind_eq_some_iff.mp hf
        refine aw_callS (rest := []) (C_X6_has hl eq12) nX6_has q1903 q1904 q137 q1905 dX6_next_67 rfl (by decide) (by decide) (Nat.le_of_ble_eq_true rfl) (Nat.le_refl _) (Nat.le_refl _) (aP1_i ?_) aP1_x
        refine aw_if_eq 128 dX6_next_70 (by decide) (fun c13 => ?_) (fun c13 => ?_)
        · have hf := it_t c13 hf
          refine aw_iinc 6 (v := x6 + 1) (lv' := [(6, .int (x6 + 1)), (0, .ref (ad 13)), (1, .int x1), (2, .int x2), (3, .int x3), (4, .int x4), (5, .int x5)]) dX6_next_128 rfl rfl (Nat.le_of_ble_eq_true rfl) rfl ?_
          refine aw_goto 43 dX6_next_131 (by decide) ?_
          refine aw_sub [1, 2, 3, 4, 5, 6, 0] rfl ?_
          exact ih x1 x2 x3 x4 x5 (x6 + 1) st hf
        · have hf := it_f c13 hf
          refine aw_iload_n 3 dX6_next_73 rfl rfl ?_
          refine aw_bipush (v := 6) dX6_next_74 (by decide) ?_
          refine aw_icmp_ge 95 dX6_next_76 (by decide) (fun c14 => ?_) (fun c14 => ?_)
          · have hf := it_t c14 hf
            refine aw_aload_n 0 dX6_next_95 rfl rfl ?_
            refine aw_iload_n 1 dX6_next_96 rfl rfl ?_
            refine aw_iload 4 dX6_next_97 rfl ?_
            refine aw_iload 6 dX6_next_99 rfl ?_
            refine aw_aload_n 0 dX6_next_101 rfl rfl ?_
            refine aw_iload 4 dX6_next_102 rfl ?_
            obtain ⟨q15, eq15, hf⟩ := Option.bind_eq_some_iff.mp hf
            refine aw_callV (rest := [.int x6, .int x4, .int x1, .ref (ad 13)]) (C_X6_linesOf hok hl eq15) (mg_o hok) rfl rfl nX6_linesOf q2082 q2084 qs87 q137 q2085 dX6_next_104 rfl (by decide) (by decide) (Nat.le_of_ble_eq_true rfl) (Nat.le_refl _) (Nat.le_refl _) (aP1_i ?_) aP1_x
            obtain ⟨q16, eq16, hf⟩ := Option.bind_eq_some_iff.mp hf
            refine aw_callV (rest := []) (C_X6_breaks hok hl eq16) (mg_o hok) rfl rfl nX6_breaks q2114 q2116 qs95 q137 q2117 dX6_next_107 rfl (by decide) (by decide) (Nat.le_of_ble_eq_true rfl) (Nat.le_refl _) (Nat.le_refl _) (aP1_i ?_) aP1_x
            refine aw_if_eq 128 dX6_next_110 (by decide) (fun c17 => ?_) (fun c17 => ?_)
            · have hf := it_t c17 hf
              refine aw_iinc 6 (v := x6 + 1) (lv' := [(6, .int (x6 + 1)), (0, .ref (ad 13)), (1, .int x1), (2, .int x2), (3, .int x3), (4, .int x4), (5, .int x5)]) dX6_next_128 rfl rfl (Nat.le_of_ble_eq_true rfl) rfl ?_
              refine aw_goto 43 dX6_next_131 (by decide) ?_
              refine aw_sub [1, 2, 3, 4, 5, 6, 0] rfl ?_
              exact ih x1 x2 x3 x4 x5 (x6 + 1) q16.2 hf
            · have hf := it_f c17 hf
              refine aw_sub [3, 4, 6] rfl ?_
              exact hK113 x3 x4 x6 q16.2 hf
          · have hf := it_f c14 hf
            refine aw_aload_n 0 dX6_next_79 rfl rfl ?_
            refine aw_iload_n 3 dX6_next_80 rfl rfl ?_
            refine aw_iload_n 1 dX6_next_81 rfl rfl ?_
            refine aw_iload 4 dX6_next_82 rfl ?_
            refine aw_iload 6 dX6_next_84 rfl ?_
            obtain ⟨q18, eq18, hf⟩ := Option.bind_eq_some_iff.mp hf
            refine aw_callV (rest := []) (C_X6_holds hok hl eq18) (mg_o hok) rfl rfl nX6_holds q2078 q2080 qs86 q137 q2081 dX6_next_86 rfl (by decide) (by decide) (Nat.le_of_ble_eq_true rfl) (Nat.le_refl _) (Nat.le_refl _) (aP1_i ?_) aP1_x
            refine aw_if_eq 128 dX6_next_89 (by decide) (fun c19 => ?_) (fun c19 => ?_)
            · have hf := it_t c19 hf
              refine aw_iinc 6 (v := x6 + 1) (lv' := [(6, .int (x6 + 1)), (0, .ref (ad 13)), (1, .int x1), (2, .int x2), (3, .int x3), (4, .int x4), (5, .int x5)]) dX6_next_128 rfl rfl (Nat.le_of_ble_eq_true rfl) rfl ?_
              refine aw_goto 43 dX6_next_131 (by decide) ?_
              refine aw_sub [1, 2, 3, 4, 5, 6, 0] rfl ?_
              exact ih x1 x2 x3 x4 x5 (x6 + 1) st hf
            · have hf := it_f c19 hf
              refine aw_sub [3, 4, 6] rfl ?_
              exact hK92 x3 x4 x6 st hf
def S_X6_next_c20 (K92 : Int32 → Int32 → Int32 → MSt → Option (Int32 × MSt)) (K113 : Int32 → Int32 → Int32 → MSt → Option (Int32 × MSt)) (K140 : Int32 → Int32 → Int32 → MSt → Option (Int32 × MSt)) : Nat → Int32 → Int32 → Int32 → Int32 → MSt → Option (Int32 × MSt)
  | 0, _, _, _, _, _ => none
  | n + 1, x1, x2, x3, x4, st =>
    (S_X6_cells st).bind fun q4 =>
    if q4 ≤ x4 then
      K140 x1 x2 x3 st
    else
      ob (x1 + x4) 750 fun j6 =>
      onm (st.2.1 5 j6) fun v8 =>
      S_X6_next_c43 K92 K113
        (fun y9_1 y9_2 y9_3 y9_4 u10 => 
            S_X6_next_c20 K92 K113 K140 n y9_1 y9_2 y9_3 (y9_4 + 1) u10)
         n x1 x2 x3 x4 v8 0 st
set_option maxHeartbeats 2000000 in
theorem A_X6_next_c20 {l : Launch} {G : aG} {ad : Nat → Nat} {h0 : aH} (hok : mOk ad) (hl : l.stackTraces = false) {r : Int32 × MSt} {K92 : Int32 → Int32 → Int32 → MSt → Option (Int32 × MSt)} (hK92 : ∀ (w3 : Int32) (w4 : Int32) (w6 : Int32) (st : MSt), K92 w3 w4 w6 st = some r → AW l G mX6_next 6 0 0 (aP1 (some (.int r.1)) (mh ad r.2 h0)) 92 [(3, .int w3), (4, .int w4), (6, .int w6)] [] (mh ad st h0) 0 0) {K113 : Int32 → Int32 → Int32 → MSt → Option (Int32 × MSt)} (hK113 : ∀ (w3 : Int32) (w4 : Int32) (w6 : Int32) (st : MSt), K113 w3 w4 w6 st = some r → AW l G mX6_next 6 0 0 (aP1 (some (.int r.1)) (mh ad r.2 h0)) 113 [(3, .int w3), (4, .int w4), (6, .int w6)] [] (mh ad st h0) 0 0) {K140 : Int32 → Int32 → Int32 → MSt → Option (Int32 × MSt)} (hK140 : ∀ (w1 : Int32) (w2 : Int32) (w3 : Int32) (st : MSt), K140 w1 w2 w3 st = some r → AW l G mX6_next 6 0 0 (aP1 (some (.int r.1)) (mh ad r.2 h0)) 140 [(0, .ref (ad 13)), (1, .int w1), (2, .int w2), (3, .int w3)] [] (mh ad st h0) 0 0) : ∀ (n : Nat) (x1 : Int32) (x2 : Int32) (x3 : Int32) (x4 : Int32) (st : MSt), S_X6_next_c20 K92 K113 K140 n x1 x2 x3 x4 st = some r → AW l G mX6_next 6 0 0 (aP1 (some (.int r.1)) (mh ad r.2 h0)) 20 [(0, .ref (ad 13)), (1, .int x1), (2, .int x2), (3, .int x3), (4, .int x4)] [] (mh ad st h0) 0 0 := by
  intro n
  induction n with
  | zero =>
    intro x1 x2 x3 x4 st hf
    rw [S_X6_next_c20] at hf
    cases hf
  | succ n ih =>
    intro x1 x2 x3 x4 st hf
    rw [S_X6_next_c20] at hf
    refine aw_iload 4 dX6_next_20 rfl ?_
    refine aw_aload_n 0 dX6_next_22 rfl rfl ?_
    obtain ⟨q4, eq4, hf⟩ := Option.bind_eq_some_iff.mp hf
    refine aw_callV (rest := [.int x4]) (C_X6_cells hok hl eq4) (mg_o hok) rfl rfl nX6_cells q1735 q1737 qs54 q137 q1738 dX6_next_23 rfl (by decide) (by decide) (Nat.le_of_ble_eq_true rfl) (Nat.le_refl _) (Nat.le_refl _) (aP1_i ?_) aP1_x
    refine aw_icmp_ge 140 dX6_next_26 (by decide) (fun c5 => ?_) (fun c5 => ?_)
    · have hf := it_t c5 hf
      refine aw_sub [0, 1, 2, 3] rfl ?_
      exact hK140 x1 x2 x3 st hf
    · have hf := it_f c5 hf
      refine aw_aload_n 0 dX6_next_29 rfl rfl ?_
      refine aw_get (v := .ref (ad 5)) (mg_o hok) rfl in_X6 15 (by decide) q1754 (Or.inl rfl) rfl dX6_next_30 ?_
      refine aw_iload_n 1 dX6_next_33 rfl rfl ?_
      refine aw_iload 4 dX6_next_34 rfl ?_
      refine aw_iadd dX6_next_36 ?_
      obtain ⟨j6, z7, ej6, hf⟩ := ob_s hf
      refine aw_ialdj (mg_5 hok) z7 ej6 dX6_next_37 ?_
      refine aw_topi (fun v8 ev8 => ?_)
      have hf := onm_a ev8 hf
      refine aw_istore (lv' := [(5, .int v8), (0, .ref (ad 13)), (1, .int x1), (2, .int x2), (3, .int x3), (4, .int x4)]) dX6_next_38 (Nat.le_of_ble_eq_true rfl) rfl ?_
      refine aw_iconst (v := 0) dX6_next_40 (by decide) ?_
      refine aw_istore (lv' := [(6, .int 0), (5, .int v8), (0, .ref (ad 13)), (1, .int x1), (2, .int x2), (3, .int x3), (4, .int x4)]) dX6_next_41 (Nat.le_of_ble_eq_true rfl) rfl ?_
      refine aw_sub [2, 3, 4, 5, 6, 1, 0] rfl ?_
      refine A_X6_next_c43 hok hl hK92 hK113 ?_ n x1 x2 x3 x4 v8 0 st hf
      · intro y9_1 y9_2 y9_3 y9_4 u10 hf
        refine aw_iinc 4 (v := y9_4 + 1) (lv' := [(4, .int (y9_4 + 1)), (0, .ref (ad 13)), (1, .int y9_1), (2, .int y9_2), (3, .int y9_3)]) dX6_next_134 rfl rfl (Nat.le_of_ble_eq_true rfl) rfl ?_
        refine aw_goto 20 dX6_next_137 (by decide) ?_
        refine aw_sub [1, 2, 3, 4, 0] rfl ?_
        exact ih y9_1 y9_2 y9_3 (y9_4 + 1) u10 hf
def S_X6_next_c12 (K92 : Int32 → Int32 → Int32 → MSt → Option (Int32 × MSt)) (K113 : Int32 → Int32 → Int32 → MSt → Option (Int32 × MSt)) : Nat → Int32 → Int32 → Int32 → MSt → Option (Int32 × MSt)
  | 0, _, _, _, _ => none
  | n + 1, x1, x2, x3, st =>
    if x2 < x3 then
      some ((-1), st)
    else
      S_X6_next_c20 K92 K113
        (fun y4_1 y4_2 y4_3 u5 => 
            S_X6_next_c12 K92 K113 n y4_1 y4_2 (y4_3 + 1) u5)
         n x1 x2 x3 0 st
set_option maxHeartbeats 2000000 in
theorem A_X6_next_c12 {l : Launch} {G : aG} {ad : Nat → Nat} {h0 : aH} (hok : mOk ad) (hl : l.stackTraces = false) {r : Int32 × MSt} {K92 : Int32 → Int32 → Int32 → MSt → Option (Int32 × MSt)} (hK92 : ∀ (w3 : Int32) (w4 : Int32) (w6 : Int32) (st : MSt), K92 w3 w4 w6 st = some r → AW l G mX6_next 6 0 0 (aP1 (some (.int r.1)) (mh ad r.2 h0)) 92 [(3, .int w3), (4, .int w4), (6, .int w6)] [] (mh ad st h0) 0 0) {K113 : Int32 → Int32 → Int32 → MSt → Option (Int32 × MSt)} (hK113 : ∀ (w3 : Int32) (w4 : Int32) (w6 : Int32) (st : MSt), K113 w3 w4 w6 st = some r → AW l G mX6_next 6 0 0 (aP1 (some (.int r.1)) (mh ad r.2 h0)) 113 [(3, .int w3), (4, .int w4), (6, .int w6)] [] (mh ad st h0) 0 0) : ∀ (n : Nat) (x1 : Int32) (x2 : Int32) (x3 : Int32) (st : MSt), S_X6_next_c12 K92 K113 n x1 x2 x3 st = some r → AW l G mX6_next 6 0 0 (aP1 (some (.int r.1)) (mh ad r.2 h0)) 12 [(0, .ref (ad 13)), (1, .int x1), (2, .int x2), (3, .int x3)] [] (mh ad st h0) 0 0 := by
  intro n
  induction n with
  | zero =>
    intro x1 x2 x3 st hf
    rw [S_X6_next_c12] at hf
    cases hf
  | succ n ih =>
    intro x1 x2 x3 st hf
    rw [S_X6_next_c12] at hf
    refine aw_iload_n 3 dX6_next_12 rfl rfl ?_
    refine aw_iload_n 2 dX6_next_13 rfl rfl ?_
    refine aw_icmp_gt 146 dX6_next_14 (by decide) (fun c3 => ?_) (fun c3 => ?_)
    · have hf := it_t c3 hf
      refine aw_iconst (v := (-1)) dX6_next_146 (by decide) ?_
      cases hf
      exact aw_iret rfl dX6_next_147 aP1_rfl (Nat.le_refl _) (Nat.le_refl _)
    · have hf := it_f c3 hf
      refine aw_iconst (v := 0) dX6_next_17 (by decide) ?_
      refine aw_istore (lv' := [(4, .int 0), (0, .ref (ad 13)), (1, .int x1), (2, .int x2), (3, .int x3)]) dX6_next_18 (Nat.le_of_ble_eq_true rfl) rfl ?_
      refine aw_sub [1, 2, 3, 4, 0] rfl ?_
      refine A_X6_next_c20 hok hl hK92 hK113 ?_ n x1 x2 x3 0 st hf
      · intro y4_1 y4_2 y4_3 u5 hf
        refine aw_iinc 3 (v := y4_3 + 1) (lv' := [(3, .int (y4_3 + 1)), (0, .ref (ad 13)), (1, .int y4_1), (2, .int y4_2)]) dX6_next_140 rfl rfl (Nat.le_of_ble_eq_true rfl) rfl ?_
        refine aw_goto 12 dX6_next_143 (by decide) ?_
        refine aw_sub [1, 2, 3, 0] rfl ?_
        exact ih y4_1 y4_2 (y4_3 + 1) u5 hf
def S_X6_next (n : Nat) (x1 : Int32) (x2 : Int32) (st : MSt) : Option (Int32 × MSt) :=
  (S_X6_looksAtAll n x1 st).bind fun q1 =>
  if q1.1 = 0 then
    S_X6_next_c12
      (fun y6_3 y6_4 y6_6 u7 => 
          some ((((1000 : Int32) * y6_3) + ((10 : Int32) * y6_4)) + y6_6, u7))
      
      (fun y8_3 y8_4 y8_6 u9 => 
          some ((((1000 : Int32) * y8_3) + ((10 : Int32) * y8_4)) + y8_6, u9))
       n x1 x2 1 q1.2
  else
    some ((-1), q1.2)
set_option maxHeartbeats 2000000 in
theorem C_X6_next {l : Launch} {G : aG} {ad : Nat → Nat} {h0 : aH} (hok : mOk ad) (hl : l.stackTraces = false) {n : Nat} {x1 : Int32} {x2 : Int32} {st : MSt} {r : Int32 × MSt} (hf : S_X6_next n x1 x2 st = some r) : aC l G mX6_next (ws_ yX6_next cX6_next 7 (some .int)) 6 0 0 [.ref (ad 13), .int x1, .int x2] (mh ad st h0) (aP1 (some (.int r.1)) (mh ad r.2 h0)) := by
  refine aC_of (M := mX6_next) rfl (by decide) (Nat.le_of_ble_eq_true rfl) hl ?_
  rw [S_X6_next] at hf
  refine aw_eqv (lv2 := [(0, .ref (ad 13)), (1, .int x1), (2, .int x2)]) rfl rfl rfl rfl ?_
  refine aw_aload_n 0 dX6_next_0 rfl rfl ?_
  refine aw_iload_n 1 dX6_next_1 rfl rfl ?_
  obtain ⟨q1, eq1, hf⟩ := Option.bind_eq_some_iff.mp hf
  refine aw_callV (rest := []) (C_X6_looksAtAll hok hl eq1) (mg_o hok) rfl rfl nX6_looksAtAll q2013 q2015 qs79 q137 q2016 dX6_next_2 rfl (by decide) (by decide) (Nat.le_of_ble_eq_true rfl) (Nat.le_refl _) (Nat.le_refl _) (aP1_i ?_) aP1_x
  refine aw_if_eq 10 dX6_next_5 (by decide) (fun c2 => ?_) (fun c2 => ?_)
  · have hf := it_t c2 hf
    refine aw_iconst (v := 1) dX6_next_10 (by decide) ?_
    refine aw_istore_n (lv' := [(3, .int 1), (0, .ref (ad 13)), (1, .int x1), (2, .int x2)]) dX6_next_11 rfl (Nat.le_of_ble_eq_true rfl) rfl ?_
    refine aw_sub [1, 2, 3, 0] rfl ?_
    refine A_X6_next_c12 hok hl ?_ ?_ n x1 x2 1 q1.2 hf
    · intro y6_3 y6_4 y6_6 u7 hf
      refine aw_goto 113 dX6_next_92 (by decide) ?_
      refine aw_sipush (v := 1000) dX6_next_113 (by decide) ?_
      refine aw_iload_n 0 dX6_next_116 rfl rfl ?_
      refine aw_imul dX6_next_117 ?_
      refine aw_bipush (v := 10) dX6_next_118 (by decide) ?_
      refine aw_iload 1 dX6_next_120 rfl ?_
      refine aw_imul dX6_next_122 ?_
      refine aw_iadd dX6_next_123 ?_
      refine aw_iload 2 dX6_next_124 rfl ?_
      refine aw_iadd dX6_next_126 ?_
      cases hf
      exact aw_iret rfl dX6_next_127 aP1_rfl (Nat.le_refl _) (Nat.le_refl _)
    · intro y8_3 y8_4 y8_6 u9 hf
      refine aw_sipush (v := 1000) dX6_next_113 (by decide) ?_
      refine aw_iload_n 0 dX6_next_116 rfl rfl ?_
      refine aw_imul dX6_next_117 ?_
      refine aw_bipush (v := 10) dX6_next_118 (by decide) ?_
      refine aw_iload 1 dX6_next_120 rfl ?_
      refine aw_imul dX6_next_122 ?_
      refine aw_iadd dX6_next_123 ?_
      refine aw_iload 2 dX6_next_124 rfl ?_
      refine aw_iadd dX6_next_126 ?_
      cases hf
      exact aw_iret rfl dX6_next_127 aP1_rfl (Nat.le_refl _) (Nat.le_refl _)
  · have hf := it_f c2 hf
    refine aw_iconst (v := (-1)) dX6_next_8 (by decide) ?_
    cases hf
    exact aw_iret rfl dX6_next_9 aP1_rfl (Nat.le_refl _) (Nat.le_refl _)
abbrev mX6_nextStep : aM := (yX6_nextStep, cX6_nextStep, 1, some .int, [])
theorem nX6_nextStep : aNoMH yX6_nextStep 0 := by decide +kernel
def S_X6_nextStep (n : Nat) (st : MSt) : Option (Int32 × MSt) :=
  onm (mI st 2 0) fun u1 =>
  (S_X6_loads n 0 u1).bind fun q2 =>
  (S_X6_next n 0 6 q2).bind fun q3 =>
  some (q3.1, q3.2)
set_option maxHeartbeats 2000000 in
theorem C_X6_nextStep {l : Launch} {G : aG} {ad : Nat → Nat} {h0 : aH} (hok : mOk ad) (hl : l.stackTraces = false) {n : Nat} {st : MSt} {r : Int32 × MSt} (hf : S_X6_nextStep n st = some r) : aC l G mX6_nextStep (ws_ yX6_nextStep cX6_nextStep 1 (some .int)) 7 0 0 [.ref (ad 13)] (mh ad st h0) (aP1 (some (.int r.1)) (mh ad r.2 h0)) := by
  refine aC_of (M := mX6_nextStep) rfl (by decide) (Nat.le_of_ble_eq_true rfl) hl ?_
  rw [S_X6_nextStep] at hf
  refine aw_eqv (lv2 := [(0, .ref (ad 13))]) rfl rfl rfl rfl ?_
  refine aw_aload_n 0 dX6_nextStep_0 rfl rfl ?_
  refine aw_iconst (v := 0) dX6_nextStep_1 (by decide) ?_
  refine aw_put (mg_o hok) rfl in_X6 tyX6_ok nmX6 5 (by decide) q1744 (Or.inl rfl) rfl rfl rfl (Nat.le_of_ble_eq_true rfl) (mu_i2 hok) dX6_nextStep_2 ?_
  refine aw_st (fun u1 eu1 => ?_)
  have hf := onm_a eu1 hf
  refine aw_aload_n 0 dX6_nextStep_5 rfl rfl ?_
  refine aw_iconst (v := 0) dX6_nextStep_6 (by decide) ?_
  obtain ⟨q2, eq2, hf⟩ := Option.bind_eq_some_iff.mp hf
  refine aw_callV (rest := []) (C_X6_loads hok hl eq2) (mg_o hok) rfl rfl nX6_loads q2009 q2011 qs78 q137 q2012 dX6_nextStep_7 rfl (by decide) (by decide) (Nat.le_of_ble_eq_true rfl) (Nat.le_refl _) (Nat.le_refl _) (aP1_v ?_) aP1_x
  refine aw_aload_n 0 dX6_nextStep_10 rfl rfl ?_
  refine aw_iconst (v := 0) dX6_nextStep_11 (by decide) ?_
  refine aw_bipush (v := 6) dX6_nextStep_12 (by decide) ?_
  obtain ⟨q3, eq3, hf⟩ := Option.bind_eq_some_iff.mp hf
  refine aw_callV (rest := []) (C_X6_next hok hl eq3) (mg_o hok) rfl rfl nX6_next q2130 q2132 qs98 q137 q2133 dX6_nextStep_14 rfl (by decide) (by decide) (Nat.le_of_ble_eq_true rfl) (Nat.le_refl _) (Nat.le_refl _) (aP1_i ?_) aP1_x
  cases hf
  exact aw_iret rfl dX6_nextStep_17 aP1_rfl (Nat.le_refl _) (Nat.le_refl _)
abbrev mX6_step : aM := (yX6_step, cX6_step, 2, some .int, [])
theorem nX6_step : aNoMH yX6_step 0 := by decide +kernel
def S_X6_step_j24 (n : Nat) (x1 : Int32) (xs0 : Int32) (st : MSt) : Option (Int32 × MSt) :=
  (S_X6_goes xs0 1 1 st).bind fun q4 =>
  if q4.1 = 0 then
    some (0, q4.2)
  else
    (S_X6_records n q4.2).bind fun q6 =>
    ob ((23 : Int32) + ((x1 / 10) - (x1 / 10) / 100 * 100)) 432 fun j7 =>
    ob ((23 : Int32) + ((x1 / 10) - (x1 / 10) / 100 * 100)) 432 fun j9 =>
    onm (mA q6 0 j9 ((q6.2.1 0 j7) &&& (((1 : Int32) <<< ((x1 - x1 / 10 * 10) &&& 31)) ^^^ ((-1) : Int32)))) fun u11 =>
    some (x1 / 1000, u11)
set_option maxHeartbeats 2000000 in
theorem A_X6_step_j24 {l : Launch} {G : aG} {ad : Nat → Nat} {h0 : aH} (hok : mOk ad) (hl : l.stackTraces = false) {r : Int32 × MSt} : ∀ (n : Nat) (x1 : Int32) (xs0 : Int32) (st : MSt), S_X6_step_j24 n x1 xs0 st = some r → AW l G mX6_step 7 0 0 (aP1 (some (.int r.1)) (mh ad r.2 h0)) 24 [(0, .ref (ad 13)), (1, .int x1)] [.int xs0, .ref (ad 13)] (mh ad st h0) 0 0 := by
  intro n x1 xs0 st hf
  rw [S_X6_step_j24] at hf
  refine aw_iconst (v := 1) dX6_step_24 (by decide) ?_
  refine aw_iconst (v := 1) dX6_step_25 (by decide) ?_
  obtain ⟨q4, eq4, hf⟩ := Option.bind_eq_some_iff.mp hf
  refine aw_callV (rest := []) (C_X6_goes hok hl eq4) (mg_o hok) rfl rfl nX6_goes q1825 q1827 qs55 q137 q1828 dX6_step_26 rfl (by decide) (by decide) (Nat.le_of_ble_eq_true rfl) (Nat.le_refl _) (Nat.le_refl _) (aP1_i ?_) aP1_x
  refine aw_if_ne 34 dX6_step_29 (by decide) (fun c5 => ?_) (fun c5 => ?_)
  · have hf := it_f c5 hf
    refine aw_aload_n 0 dX6_step_34 rfl rfl ?_
    obtain ⟨q6, eq6, hf⟩ := Option.bind_eq_some_iff.mp hf
    refine aw_callV (rest := []) (C_X6_records hok hl eq6) (mg_o hok) rfl rfl nX6_records q1829 q1831 qs56 q137 q1832 dX6_step_35 rfl (by decide) (by decide) (Nat.le_of_ble_eq_true rfl) (Nat.le_refl _) (Nat.le_refl _) (aP1_v ?_) aP1_x
    refine aw_aload_n 0 dX6_step_38 rfl rfl ?_
    refine aw_get (v := .ref (ad 0)) (mg_o hok) rfl in_X6 0 (by decide) q1739 (Or.inl rfl) rfl dX6_step_39 ?_
    refine aw_bipush (v := 23) dX6_step_42 (by decide) ?_
    refine aw_iload_n 1 dX6_step_44 rfl rfl ?_
    refine aw_bipush (v := 10) dX6_step_45 (by decide) ?_
    refine aw_idiv dX6_step_47 (by decide) ?_
    refine aw_bipush (v := 100) dX6_step_48 (by decide) ?_
    refine aw_irem dX6_step_50 (by decide) ?_
    refine aw_iadd dX6_step_51 ?_
    refine aw_dup2_11 dX6_step_52 rfl rfl ?_
    obtain ⟨j7, z8, ej7, hf⟩ := ob_s hf
    refine aw_ialdj (mg_0 hok) z8 ej7 dX6_step_53 ?_
    refine aw_iconst (v := 1) dX6_step_54 (by decide) ?_
    refine aw_iload_n 1 dX6_step_55 rfl rfl ?_
    refine aw_bipush (v := 10) dX6_step_56 (by decide) ?_
    refine aw_irem dX6_step_58 (by decide) ?_
    refine aw_ishl dX6_step_59 ?_
    refine aw_iconst (v := (-1)) dX6_step_60 (by decide) ?_
    refine aw_ixor dX6_step_61 ?_
    refine aw_iand dX6_step_62 ?_
    obtain ⟨j9, z10, ej9, hf⟩ := ob_s hf
    refine aw_iastj (mg_0 hok) z10 ej9 (mu_0 hok) dX6_step_63 ?_
    refine aw_st (fun u11 eu11 => ?_)
    have hf := onm_a eu11 hf
    refine aw_iload_n 1 dX6_step_64 rfl rfl ?_
    refine aw_sipush (v := 1000) dX6_step_65 (by decide) ?_
    refine aw_idiv dX6_step_68 (by decide) ?_
    cases hf
    exact aw_iret rfl dX6_step_69 aP1_rfl (Nat.le_refl _) (Nat.le_refl _)
  · have hf := it_t c5 hf
    refine aw_iconst (v := 0) dX6_step_32 (by decide) ?_
    cases hf
    exact aw_iret rfl dX6_step_33 aP1_rfl (Nat.le_refl _) (Nat.le_refl _)
def S_X6_step (n : Nat) (st : MSt) : Option (Int32 × MSt) :=
  (S_X6_loads n 0 st).bind fun q1 =>
  (S_X6_next n 0 6 q1).bind fun q2 =>
  if q2.1 = ((-1)) then
    S_X6_step_j24 n q2.1 0 q2.2
  else
    S_X6_step_j24 n q2.1 1 q2.2
set_option maxHeartbeats 2000000 in
theorem C_X6_step {l : Launch} {G : aG} {ad : Nat → Nat} {h0 : aH} (hok : mOk ad) (hl : l.stackTraces = false) {n : Nat} {st : MSt} {r : Int32 × MSt} (hf : S_X6_step n st = some r) : aC l G mX6_step (ws_ yX6_step cX6_step 2 (some .int)) 7 0 0 [.ref (ad 13)] (mh ad st h0) (aP1 (some (.int r.1)) (mh ad r.2 h0)) := by
  refine aC_of (M := mX6_step) rfl (by decide) (Nat.le_of_ble_eq_true rfl) hl ?_
  rw [S_X6_step] at hf
  refine aw_eqv (lv2 := [(0, .ref (ad 13))]) rfl rfl rfl rfl ?_
  refine aw_aload_n 0 dX6_step_0 rfl rfl ?_
  refine aw_iconst (v := 0) dX6_step_1 (by decide) ?_
  obtain ⟨q1, eq1, hf⟩ := Option.bind_eq_some_iff.mp hf
  refine aw_callV (rest := []) (C_X6_loads hok hl eq1) (mg_o hok) rfl rfl nX6_loads q2009 q2011 qs78 q137 q2012 dX6_step_2 rfl (by decide) (by decide) (Nat.le_of_ble_eq_true rfl) (Nat.le_refl _) (Nat.le_refl _) (aP1_v ?_) aP1_x
  refine aw_aload_n 0 dX6_step_5 rfl rfl ?_
  refine aw_iconst (v := 0) dX6_step_6 (by decide) ?_
  refine aw_bipush (v := 6) dX6_step_7 (by decide) ?_
  obtain ⟨q2, eq2, hf⟩ := Option.bind_eq_some_iff.mp hf
  refine aw_callV (rest := []) (C_X6_next hok hl eq2) (mg_o hok) rfl rfl nX6_next q2130 q2132 qs98 q137 q2133 dX6_step_9 rfl (by decide) (by decide) (Nat.le_of_ble_eq_true rfl) (Nat.le_refl _) (Nat.le_refl _) (aP1_i ?_) aP1_x
  refine aw_istore_n (lv' := [(1, .int q2.1), (0, .ref (ad 13))]) dX6_step_12 rfl (Nat.le_of_ble_eq_true rfl) rfl ?_
  refine aw_aload_n 1 dX6_step_13 rfl rfl ?_
  refine aw_iload_n 0 dX6_step_14 rfl rfl ?_
  refine aw_iconst (v := (-1)) dX6_step_15 (by decide) ?_
  refine aw_icmp_eq 23 dX6_step_16 (by decide) (fun c3 => ?_) (fun c3 => ?_)
  · have hf := it_t c3 hf
    refine aw_iconst (v := 0) dX6_step_23 (by decide) ?_
    refine aw_sub [1, 0] rfl ?_
    exact A_X6_step_j24 hok hl n q2.1 0 q2.2 hf
  · have hf := it_f c3 hf
    refine aw_iconst (v := 1) dX6_step_19 (by decide) ?_
    refine aw_goto 24 dX6_step_20 (by decide) ?_
    refine aw_sub [1, 0] rfl ?_
    exact A_X6_step_j24 hok hl n q2.1 1 q2.2 hf
abbrev mX6_crosses : aM := (yX6_crosses, cX6_crosses, 3, none, [])
theorem nX6_crosses : aNoMH yX6_crosses 2 := by decide +kernel
def S_X6_crosses (x1 : Int32) (x2 : Int32) (st : MSt) : Option (MSt) :=
  ob (x1 + ((x2 / 10) - (x2 / 10) / 100 * 100)) 750 fun j1 =>
  ob (x1 + ((x2 / 10) - (x2 / 10) / 100 * 100)) 750 fun j3 =>
  onm (mA st 5 j3 ((st.2.1 5 j1) &&& (((1 : Int32) <<< ((x2 - x2 / 10 * 10) &&& 31)) ^^^ ((-1) : Int32)))) fun u5 =>
  some u5
set_option maxHeartbeats 2000000 in
theorem C_X6_crosses {l : Launch} {G : aG} {ad : Nat → Nat} {h0 : aH} (hok : mOk ad) (hl : l.stackTraces = false) {x1 : Int32} {x2 : Int32} {st : MSt} {r : MSt} (hf : S_X6_crosses x1 x2 st = some r) : aC l G mX6_crosses (ws_ yX6_crosses cX6_crosses 3 none) 0 0 0 [.ref (ad 13), .int x1, .int x2] (mh ad st h0) (aP1 none (mh ad r h0)) := by
  refine aC_of (M := mX6_crosses) rfl (by decide) (Nat.le_of_ble_eq_true rfl) hl ?_
  rw [S_X6_crosses] at hf
  refine aw_eqv (lv2 := [(0, .ref (ad 13)), (1, .int x1), (2, .int x2)]) rfl rfl rfl rfl ?_
  refine aw_aload_n 0 dX6_crosses_0 rfl rfl ?_
  refine aw_get (v := .ref (ad 5)) (mg_o hok) rfl in_X6 15 (by decide) q1754 (Or.inl rfl) rfl dX6_crosses_1 ?_
  refine aw_iload_n 1 dX6_crosses_4 rfl rfl ?_
  refine aw_iload_n 2 dX6_crosses_5 rfl rfl ?_
  refine aw_bipush (v := 10) dX6_crosses_6 (by decide) ?_
  refine aw_idiv dX6_crosses_8 (by decide) ?_
  refine aw_bipush (v := 100) dX6_crosses_9 (by decide) ?_
  refine aw_irem dX6_crosses_11 (by decide) ?_
  refine aw_iadd dX6_crosses_12 ?_
  refine aw_dup2_11 dX6_crosses_13 rfl rfl ?_
  obtain ⟨j1, z2, ej1, hf⟩ := ob_s hf
  refine aw_ialdj (mg_5 hok) z2 ej1 dX6_crosses_14 ?_
  refine aw_iconst (v := 1) dX6_crosses_15 (by decide) ?_
  refine aw_iload_n 2 dX6_crosses_16 rfl rfl ?_
  refine aw_bipush (v := 10) dX6_crosses_17 (by decide) ?_
  refine aw_irem dX6_crosses_19 (by decide) ?_
  refine aw_ishl dX6_crosses_20 ?_
  refine aw_iconst (v := (-1)) dX6_crosses_21 (by decide) ?_
  refine aw_ixor dX6_crosses_22 ?_
  refine aw_iand dX6_crosses_23 ?_
  obtain ⟨j3, z4, ej3, hf⟩ := ob_s hf
  refine aw_iastj (mg_5 hok) z4 ej3 (mu_5 hok) dX6_crosses_24 ?_
  refine aw_st (fun u5 eu5 => ?_)
  have hf := onm_a eu5 hf
  cases hf
  exact aw_vret rfl dX6_crosses_25 aP1_rfl (Nat.le_refl _) (Nat.le_refl _)
abbrev mX6_steps : aM := (yX6_steps, cX6_steps, 4, some .int, [])
theorem nX6_steps : aNoMH yX6_steps 1 := by decide +kernel
def S_X6_steps_c16 : Nat → Int32 → Int32 → Int32 → MSt → Option (Int32 × MSt)
  | 0, _, _, _, _ => none
  | n + 1, x1, x2, x3, st =>
    if x3 = ((-1)) then
      some (x2, st)
    else
      (S_X6_crosses 25 x3 st).bind fun q4 =>
      (S_X6_next n 25 x1 q4).bind fun q5 =>
      S_X6_steps_c16 n x1 (x2 + 1) q5.1 q5.2
set_option maxHeartbeats 2000000 in
theorem A_X6_steps_c16 {l : Launch} {G : aG} {ad : Nat → Nat} {h0 : aH} (hok : mOk ad) (hl : l.stackTraces = false) {r : Int32 × MSt} : ∀ (n : Nat) (x1 : Int32) (x2 : Int32) (x3 : Int32) (st : MSt), S_X6_steps_c16 n x1 x2 x3 st = some r → AW l G mX6_steps 7 0 0 (aP1 (some (.int r.1)) (mh ad r.2 h0)) 16 [(0, .ref (ad 13)), (1, .int x1), (2, .int x2), (3, .int x3)] [] (mh ad st h0) 0 0 := by
  intro n
  induction n with
  | zero =>
    intro x1 x2 x3 st hf
    rw [S_X6_steps_c16] at hf
    cases hf
  | succ n ih =>
    intro x1 x2 x3 st hf
    rw [S_X6_steps_c16] at hf
    refine aw_iload_n 3 dX6_steps_16 rfl rfl ?_
    refine aw_iconst (v := (-1)) dX6_steps_17 (by decide) ?_
    refine aw_icmp_eq 42 dX6_steps_18 (by decide) (fun c3 => ?_) (fun c3 => ?_)
    · have hf := it_t c3 hf
      refine aw_iload_n 2 dX6_steps_42 rfl rfl ?_
      cases hf
      exact aw_iret rfl dX6_steps_43 aP1_rfl (Nat.le_refl _) (Nat.le_refl _)
    · have hf := it_f c3 hf
      refine aw_aload_n 0 dX6_steps_21 rfl rfl ?_
      refine aw_bipush (v := 25) dX6_steps_22 (by decide) ?_
      refine aw_iload_n 3 dX6_steps_24 rfl rfl ?_
      obtain ⟨q4, eq4, hf⟩ := Option.bind_eq_some_iff.mp hf
      refine aw_callV (rest := []) (C_X6_crosses hok hl eq4) (mg_o hok) rfl rfl nX6_crosses q2146 q2148 qs100 q137 q2149 dX6_steps_25 rfl (by decide) (by decide) (Nat.le_of_ble_eq_true rfl) (Nat.le_refl _) (Nat.le_refl _) (aP1_v ?_) aP1_x
      refine aw_iinc 2 (v := x2 + 1) (lv' := [(2, .int (x2 + 1)), (0, .ref (ad 13)), (1, .int x1), (3, .int x3)]) dX6_steps_28 rfl rfl (Nat.le_of_ble_eq_true rfl) rfl ?_
      refine aw_aload_n 1 dX6_steps_31 rfl rfl ?_
      refine aw_bipush (v := 25) dX6_steps_32 (by decide) ?_
      refine aw_iload_n 2 dX6_steps_34 rfl rfl ?_
      obtain ⟨q5, eq5, hf⟩ := Option.bind_eq_some_iff.mp hf
      refine aw_callV (rest := []) (C_X6_next hok hl eq5) (mg_o hok) rfl rfl nX6_next q2130 q2132 qs98 q137 q2133 dX6_steps_35 rfl (by decide) (by decide) (Nat.le_of_ble_eq_true rfl) (Nat.le_refl _) (Nat.le_refl _) (aP1_i ?_) aP1_x
      refine aw_istore_n (lv' := [(3, .int q5.1), (2, .int (x2 + 1)), (0, .ref (ad 13)), (1, .int x1)]) dX6_steps_38 rfl (Nat.le_of_ble_eq_true rfl) rfl ?_
      refine aw_goto 16 dX6_steps_39 (by decide) ?_
      refine aw_sub [2, 3, 1, 0] rfl ?_
      exact ih x1 (x2 + 1) q5.1 q5.2 hf
def S_X6_steps (n : Nat) (x1 : Int32) (st : MSt) : Option (Int32 × MSt) :=
  (S_X6_loads n 25 st).bind fun q1 =>
  (S_X6_next n 25 x1 q1).bind fun q2 =>
  S_X6_steps_c16 n x1 0 q2.1 q2.2
set_option maxHeartbeats 2000000 in
theorem C_X6_steps {l : Launch} {G : aG} {ad : Nat → Nat} {h0 : aH} (hok : mOk ad) (hl : l.stackTraces = false) {n : Nat} {x1 : Int32} {st : MSt} {r : Int32 × MSt} (hf : S_X6_steps n x1 st = some r) : aC l G mX6_steps (ws_ yX6_steps cX6_steps 4 (some .int)) 7 0 0 [.ref (ad 13), .int x1] (mh ad st h0) (aP1 (some (.int r.1)) (mh ad r.2 h0)) := by
  refine aC_of (M := mX6_steps) rfl (by decide) (Nat.le_of_ble_eq_true rfl) hl ?_
  rw [S_X6_steps] at hf
  refine aw_eqv (lv2 := [(0, .ref (ad 13)), (1, .int x1)]) rfl rfl rfl rfl ?_
  refine aw_aload_n 0 dX6_steps_0 rfl rfl ?_
  refine aw_bipush (v := 25) dX6_steps_1 (by decide) ?_
  obtain ⟨q1, eq1, hf⟩ := Option.bind_eq_some_iff.mp hf
  refine aw_callV (rest := []) (C_X6_loads hok hl eq1) (mg_o hok) rfl rfl nX6_loads q2009 q2011 qs78 q137 q2012 dX6_steps_3 rfl (by decide) (by decide) (Nat.le_of_ble_eq_true rfl) (Nat.le_refl _) (Nat.le_refl _) (aP1_v ?_) aP1_x
  refine aw_iconst (v := 0) dX6_steps_6 (by decide) ?_
  refine aw_istore_n (lv' := [(2, .int 0), (0, .ref (ad 13)), (1, .int x1)]) dX6_steps_7 rfl (Nat.le_of_ble_eq_true rfl) rfl ?_
  refine aw_aload_n 1 dX6_steps_8 rfl rfl ?_
  refine aw_bipush (v := 25) dX6_steps_9 (by decide) ?_
  refine aw_iload_n 2 dX6_steps_11 rfl rfl ?_
  obtain ⟨q2, eq2, hf⟩ := Option.bind_eq_some_iff.mp hf
  refine aw_callV (rest := []) (C_X6_next hok hl eq2) (mg_o hok) rfl rfl nX6_next q2130 q2132 qs98 q137 q2133 dX6_steps_12 rfl (by decide) (by decide) (Nat.le_of_ble_eq_true rfl) (Nat.le_refl _) (Nat.le_refl _) (aP1_i ?_) aP1_x
  refine aw_istore_n (lv' := [(3, .int q2.1), (2, .int 0), (0, .ref (ad 13)), (1, .int x1)]) dX6_steps_15 rfl (Nat.le_of_ble_eq_true rfl) rfl ?_
  refine aw_sub [2, 3, 1, 0] rfl ?_
  exact A_X6_steps_c16 hok hl n x1 0 q2.1 q2.2 hf
abbrev mX6_stepAll : aM := (yX6_stepAll, cX6_stepAll, 4, some .int, [])
theorem nX6_stepAll : aNoMH yX6_stepAll 1 := by decide +kernel
def S_X6_stepAll_c30 : Nat → Int32 → Int32 → MSt → Option (Int32 × MSt)
  | 0, _, _, _ => none
  | n + 1, x2, x3, st =>
    (S_X6_cells st).bind fun q6 =>
    if q6 ≤ x3 then
      some (x2, st)
    else
      ob ((25 : Int32) + x3) 750 fun j8 =>
      ob ((23 : Int32) + x3) 432 fun j10 =>
      onm (mA st 0 j10 (st.2.1 5 j8)) fun u12 =>
      S_X6_stepAll_c30 n x2 (x3 + 1) u12
set_option maxHeartbeats 2000000 in
theorem A_X6_stepAll_c30 {l : Launch} {G : aG} {ad : Nat → Nat} {h0 : aH} (hok : mOk ad) (hl : l.stackTraces = false) {r : Int32 × MSt} : ∀ (n : Nat) (x2 : Int32) (x3 : Int32) (st : MSt), S_X6_stepAll_c30 n x2 x3 st = some r → AW l G mX6_stepAll 8 0 0 (aP1 (some (.int r.1)) (mh ad r.2 h0)) 30 [(0, .ref (ad 13)), (2, .int x2), (3, .int x3)] [] (mh ad st h0) 0 0 := by
  intro n
  induction n with
  | zero =>
    intro x2 x3 st hf
    rw [S_X6_stepAll_c30] at hf
    cases hf
  | succ n ih =>
    intro x2 x3 st hf
    rw [S_X6_stepAll_c30] at hf
    refine aw_iload_n 2 dX6_stepAll_30 rfl rfl ?_
    refine aw_aload_n 0 dX6_stepAll_31 rfl rfl ?_
    obtain ⟨q6, eq6, hf⟩ := Option.bind_eq_some_iff.mp hf
    refine aw_callV (rest := [.int x3]) (C_X6_cells hok hl eq6) (mg_o hok) rfl rfl nX6_cells q1735 q1737 qs54 q137 q1738 dX6_stepAll_32 rfl (by decide) (by decide) (Nat.le_of_ble_eq_true rfl) (Nat.le_refl _) (Nat.le_refl _) (aP1_i ?_) aP1_x
    refine aw_icmp_ge 62 dX6_stepAll_35 (by decide) (fun c7 => ?_) (fun c7 => ?_)
    · have hf := it_t c7 hf
      refine aw_iload_n 1 dX6_stepAll_62 rfl rfl ?_
      cases hf
      exact aw_iret rfl dX6_stepAll_63 aP1_rfl (Nat.le_refl _) (Nat.le_refl _)
    · have hf := it_f c7 hf
      refine aw_aload_n 0 dX6_stepAll_38 rfl rfl ?_
      refine aw_get (v := .ref (ad 0)) (mg_o hok) rfl in_X6 0 (by decide) q1739 (Or.inl rfl) rfl dX6_stepAll_39 ?_
      refine aw_bipush (v := 23) dX6_stepAll_42 (by decide) ?_
      refine aw_iload_n 2 dX6_stepAll_44 rfl rfl ?_
      refine aw_iadd dX6_stepAll_45 ?_
      refine aw_aload_n 0 dX6_stepAll_46 rfl rfl ?_
      refine aw_get (v := .ref (ad 5)) (mg_o hok) rfl in_X6 15 (by decide) q1754 (Or.inl rfl) rfl dX6_stepAll_47 ?_
      refine aw_bipush (v := 25) dX6_stepAll_50 (by decide) ?_
      refine aw_iload_n 2 dX6_stepAll_52 rfl rfl ?_
      refine aw_iadd dX6_stepAll_53 ?_
      obtain ⟨j8, z9, ej8, hf⟩ := ob_s hf
      refine aw_ialdj (mg_5 hok) z9 ej8 dX6_stepAll_54 ?_
      obtain ⟨j10, z11, ej10, hf⟩ := ob_s hf
      refine aw_iastj (mg_0 hok) z11 ej10 (mu_0 hok) dX6_stepAll_55 ?_
      refine aw_st (fun u12 eu12 => ?_)
      have hf := onm_a eu12 hf
      refine aw_iinc 2 (v := x3 + 1) (lv' := [(3, .int (x3 + 1)), (0, .ref (ad 13)), (2, .int x2)]) dX6_stepAll_56 rfl rfl (Nat.le_of_ble_eq_true rfl) rfl ?_
      refine aw_goto 30 dX6_stepAll_59 (by decide) ?_
      refine aw_sub [1, 2, 0] rfl ?_
      exact ih x2 (x3 + 1) u12 hf
def S_X6_stepAll (n : Nat) (x1 : Int32) (st : MSt) : Option (Int32 × MSt) :=
  (S_X6_in x1 1 6).bind fun q1 =>
  (S_X6_goes q1 1 1 st).bind fun q2 =>
  if q2.1 = 0 then
    some (0, q2.2)
  else
    (S_X6_records n q2.2).bind fun q4 =>
    (S_X6_steps n x1 q4).bind fun q5 =>
    S_X6_stepAll_c30 n q5.1 0 q5.2
set_option maxHeartbeats 2000000 in
theorem C_X6_stepAll {l : Launch} {G : aG} {ad : Nat → Nat} {h0 : aH} (hok : mOk ad) (hl : l.stackTraces = false) {n : Nat} {x1 : Int32} {st : MSt} {r : Int32 × MSt} (hf : S_X6_stepAll n x1 st = some r) : aC l G mX6_stepAll (ws_ yX6_stepAll cX6_stepAll 4 (some .int)) 8 0 0 [.ref (ad 13), .int x1] (mh ad st h0) (aP1 (some (.int r.1)) (mh ad r.2 h0)) := by
  refine aC_of (M := mX6_stepAll) rfl (by decide) (Nat.le_of_ble_eq_true rfl) hl ?_
  rw [S_X6_stepAll] at hf
  refine aw_eqv (lv2 := [(0, .ref (ad 13)), (1, .int x1)]) rfl rfl rfl rfl ?_
  refine aw_aload_n 0 dX6_stepAll_0 rfl rfl ?_
  refine aw_iload_n 1 dX6_stepAll_1 rfl rfl ?_
  refine aw_iconst (v := 1) dX6_stepAll_2 (by decide) ?_
  refine aw_bipush (v := 6) dX6_stepAll_3 (by decide) ?_
  obtain ⟨q1, eq1, hf⟩ := Option.bind_eq_some_iff.mp hf
  refine aw_callS (rest := [.ref (ad 13)]) (C_X6_in hl eq1) nX6_in q1822 q1823 q137 q1824 dX6_stepAll_5 rfl (by decide) (by decide) (Nat.le_of_ble_eq_true rfl) (Nat.le_refl _) (Nat.le_refl _) (aP1_i ?_) aP1_x
  refine aw_iconst (v := 1) dX6_stepAll_8 (by decide) ?_
  refine aw_iconst (v := 1) dX6_stepAll_9 (by decide) ?_
  obtain ⟨q2, eq2, hf⟩ := Option.bind_eq_some_iff.mp hf
  refine aw_callV (rest := []) (C_X6_goes hok hl eq2) (mg_o hok) rfl rfl nX6_goes q1825 q1827 qs55 q137 q1828 dX6_stepAll_10 rfl (by decide) (by decide) (Nat.le_of_ble_eq_true rfl) (Nat.le_refl _) (Nat.le_refl _) (aP1_i ?_) aP1_x
  refine aw_if_ne 18 dX6_stepAll_13 (by decide) (fun c3 => ?_) (fun c3 => ?_)
  · have hf := it_f c3 hf
    refine aw_aload_n 0 dX6_stepAll_18 rfl rfl ?_
    obtain ⟨q4, eq4, hf⟩ := Option.bind_eq_some_iff.mp hf
    refine aw_callV (rest := []) (C_X6_records hok hl eq4) (mg_o hok) rfl rfl nX6_records q1829 q1831 qs56 q137 q1832 dX6_stepAll_19 rfl (by decide) (by decide) (Nat.le_of_ble_eq_true rfl) (Nat.le_refl _) (Nat.le_refl _) (aP1_v ?_) aP1_x
    refine aw_aload_n 0 dX6_stepAll_22 rfl rfl ?_
    refine aw_iload_n 1 dX6_stepAll_23 rfl rfl ?_
    obtain ⟨q5, eq5, hf⟩ := Option.bind_eq_some_iff.mp hf
    refine aw_callV (rest := []) (C_X6_steps hok hl eq5) (mg_o hok) rfl rfl nX6_steps q2142 q2144 qs99 q137 q2145 dX6_stepAll_24 rfl (by decide) (by decide) (Nat.le_of_ble_eq_true rfl) (Nat.le_refl _) (Nat.le_refl _) (aP1_i ?_) aP1_x
    refine aw_istore_n (lv' := [(2, .int q5.1), (0, .ref (ad 13)), (1, .int x1)]) dX6_stepAll_27 rfl (Nat.le_of_ble_eq_true rfl) rfl ?_
    refine aw_iconst (v := 0) dX6_stepAll_28 (by decide) ?_
    refine aw_istore_n (lv' := [(3, .int 0), (2, .int q5.1), (0, .ref (ad 13)), (1, .int x1)]) dX6_stepAll_29 rfl (Nat.le_of_ble_eq_true rfl) rfl ?_
    refine aw_sub [2, 1, 0] rfl ?_
    exact A_X6_stepAll_c30 hok hl n q5.1 0 q5.2 hf
  · have hf := it_t c3 hf
    refine aw_iconst (v := 0) dX6_stepAll_16 (by decide) ?_
    cases hf
    exact aw_iret rfl dX6_stepAll_17 aP1_rfl (Nat.le_refl _) (Nat.le_refl _)
abbrev mX6_stepsUpTo : aM := (yX6_stepsUpTo, cX6_stepsUpTo, 2, some .int, [])
theorem nX6_stepsUpTo : aNoMH yX6_stepsUpTo 1 := by decide +kernel
def S_X6_stepsUpTo (n : Nat) (x1 : Int32) (st : MSt) : Option (Int32 × MSt) :=
  (S_X6_in x1 1 6).bind fun q1 =>
  (S_X6_goes q1 1 1 st).bind fun q2 =>
  if q2.1 = 0 then
    some (0, q2.2)
  else
    (S_X6_steps n x1 q2.2).bind fun q4 =>
    some (q4.1, q4.2)
set_option maxHeartbeats 2000000 in
theorem C_X6_stepsUpTo {l : Launch} {G : aG} {ad : Nat → Nat} {h0 : aH} (hok : mOk ad) (hl : l.stackTraces = false) {n : Nat} {x1 : Int32} {st : MSt} {r : Int32 × MSt} (hf : S_X6_stepsUpTo n x1 st = some r) : aC l G mX6_stepsUpTo (ws_ yX6_stepsUpTo cX6_stepsUpTo 2 (some .int)) 8 0 0 [.ref (ad 13), .int x1] (mh ad st h0) (aP1 (some (.int r.1)) (mh ad r.2 h0)) := by
  refine aC_of (M := mX6_stepsUpTo) rfl (by decide) (Nat.le_of_ble_eq_true rfl) hl ?_
  rw [S_X6_stepsUpTo] at hf
  refine aw_eqv (lv2 := [(0, .ref (ad 13)), (1, .int x1)]) rfl rfl rfl rfl ?_
  refine aw_aload_n 0 dX6_stepsUpTo_0 rfl rfl ?_
  refine aw_iload_n 1 dX6_stepsUpTo_1 rfl rfl ?_
  refine aw_iconst (v := 1) dX6_stepsUpTo_2 (by decide) ?_
  refine aw_bipush (v := 6) dX6_stepsUpTo_3 (by decide) ?_
  obtain ⟨q1, eq1, hf⟩ := Option.bind_eq_some_iff.mp hf
  refine aw_callS (rest := [.ref (ad 13)]) (C_X6_in hl eq1) nX6_in q1822 q1823 q137 q1824 dX6_stepsUpTo_5 rfl (by decide) (by decide) (Nat.le_of_ble_eq_true rfl) (Nat.le_refl _) (Nat.le_refl _) (aP1_i ?_) aP1_x
  refine aw_iconst (v := 1) dX6_stepsUpTo_8 (by decide) ?_
  refine aw_iconst (v := 1) dX6_stepsUpTo_9 (by decide) ?_
  obtain ⟨q2, eq2, hf⟩ := Option.bind_eq_some_iff.mp hf
  refine aw_callV (rest := []) (C_X6_goes hok hl eq2) (mg_o hok) rfl rfl nX6_goes q1825 q1827 qs55 q137 q1828 dX6_stepsUpTo_10 rfl (by decide) (by decide) (Nat.le_of_ble_eq_true rfl) (Nat.le_refl _) (Nat.le_refl _) (aP1_i ?_) aP1_x
  refine aw_if_eq 24 dX6_stepsUpTo_13 (by decide) (fun c3 => ?_) (fun c3 => ?_)
  · have hf := it_t c3 hf
    refine aw_iconst (v := 0) dX6_stepsUpTo_24 (by decide) ?_
    cases hf
    exact aw_iret rfl dX6_stepsUpTo_25 aP1_rfl (Nat.le_refl _) (Nat.le_refl _)
  · have hf := it_f c3 hf
    refine aw_aload_n 0 dX6_stepsUpTo_16 rfl rfl ?_
    refine aw_iload_n 1 dX6_stepsUpTo_17 rfl rfl ?_
    obtain ⟨q4, eq4, hf⟩ := Option.bind_eq_some_iff.mp hf
    refine aw_callV (rest := []) (C_X6_steps hok hl eq4) (mg_o hok) rfl rfl nX6_steps q2142 q2144 qs99 q137 q2145 dX6_stepsUpTo_18 rfl (by decide) (by decide) (Nat.le_of_ble_eq_true rfl) (Nat.le_refl _) (Nat.le_refl _) (aP1_i ?_) aP1_x
    refine aw_goto 25 dX6_stepsUpTo_21 (by decide) ?_
    cases hf
    exact aw_iret rfl dX6_stepsUpTo_25 aP1_rfl (Nat.le_refl _) (Nat.le_refl _)
abbrev mX6_hardness : aM := (yX6_hardness, cX6_hardness, 3, some .int, [])
theorem nX6_hardness : aNoMH yX6_hardness 0 := by decide +kernel
def S_X6_hardness_c22 : Nat → Int32 → MSt → Option (Int32 × MSt)
  | 0, _, _ => none
  | n + 1, x1, st =>
    if 7 ≤ x1 then
      some (7, st)
    else
      (S_X6_steps n x1 st).bind fun q6 =>
      (S_X6_isSolution n 25 q6.2).bind fun q7 =>
      if q7.1 = 0 then
        S_X6_hardness_c22 n (x1 + 1) q7.2
      else
        some (x1, q7.2)
set_option maxHeartbeats 2000000 in
theorem A_X6_hardness_c22 {l : Launch} {G : aG} {ad : Nat → Nat} {h0 : aH} (hok : mOk ad) (hl : l.stackTraces = false) {r : Int32 × MSt} : ∀ (n : Nat) (x1 : Int32) (st : MSt), S_X6_hardness_c22 n x1 st = some r → AW l G mX6_hardness 8 0 0 (aP1 (some (.int r.1)) (mh ad r.2 h0)) 22 [(0, .ref (ad 13)), (1, .int x1)] [] (mh ad st h0) 0 0 := by
  intro n
  induction n with
  | zero =>
    intro x1 st hf
    rw [S_X6_hardness_c22] at hf
    cases hf
  | succ n ih =>
    intro x1 st hf
    rw [S_X6_hardness_c22] at hf
    refine aw_iload_n 1 dX6_hardness_22 rfl rfl ?_
    refine aw_bipush (v := 7) dX6_hardness_23 (by decide) ?_
    refine aw_icmp_ge 51 dX6_hardness_25 (by decide) (fun c5 => ?_) (fun c5 => ?_)
    · have hf := it_t c5 hf
      refine aw_bipush (v := 7) dX6_hardness_51 (by decide) ?_
      cases hf
      exact aw_iret rfl dX6_hardness_53 aP1_rfl (Nat.le_refl _) (Nat.le_refl _)
    · have hf := it_f c5 hf
      refine aw_aload_n 0 dX6_hardness_28 rfl rfl ?_
      refine aw_iload_n 1 dX6_hardness_29 rfl rfl ?_
      obtain ⟨q6, eq6, hf⟩ := Option.bind_eq_some_iff.mp hf
      refine aw_callV (rest := []) (C_X6_steps hok hl eq6) (mg_o hok) rfl rfl nX6_steps q2142 q2144 qs99 q137 q2145 dX6_hardness_30 rfl (by decide) (by decide) (Nat.le_of_ble_eq_true rfl) (Nat.le_refl _) (Nat.le_refl _) (aP1_i ?_) aP1_x
      refine aw_istore_n (lv' := [(2, .int q6.1), (0, .ref (ad 13)), (1, .int x1)]) dX6_hardness_33 rfl (Nat.le_of_ble_eq_true rfl) rfl ?_
      refine aw_aload_n 1 dX6_hardness_34 rfl rfl ?_
      refine aw_bipush (v := 25) dX6_hardness_35 (by decide) ?_
      obtain ⟨q7, eq7, hf⟩ := Option.bind_eq_some_iff.mp hf
      refine aw_callV (rest := []) (C_X6_isSolution hok hl eq7) (mg_o hok) rfl rfl nX6_isSolution q2036 q2038 qs83 q137 q2039 dX6_hardness_37 rfl (by decide) (by decide) (Nat.le_of_ble_eq_true rfl) (Nat.le_refl _) (Nat.le_refl _) (aP1_i ?_) aP1_x
      refine aw_if_eq 45 dX6_hardness_40 (by decide) (fun c8 => ?_) (fun c8 => ?_)
      · have hf := it_t c8 hf
        refine aw_iinc 2 (v := x1 + 1) (lv' := [(1, .int (x1 + 1)), (2, .int q6.1), (0, .ref (ad 13))]) dX6_hardness_45 rfl rfl (Nat.le_of_ble_eq_true rfl) rfl ?_
        refine aw_goto 22 dX6_hardness_48 (by decide) ?_
        refine aw_sub [2, 0] rfl ?_
        exact ih (x1 + 1) q7.2 hf
      · have hf := it_f c8 hf
        refine aw_iload_n 2 dX6_hardness_43 rfl rfl ?_
        cases hf
        exact aw_iret rfl dX6_hardness_44 aP1_rfl (Nat.le_refl _) (Nat.le_refl _)
def S_X6_hardness (n : Nat) (st : MSt) : Option (Int32 × MSt) :=
  onm (mI st 2 0) fun u1 =>
  (S_X6_loads n 0 u1).bind fun q2 =>
  (S_X6_isSolution n 0 q2).bind fun q3 =>
  if q3.1 = 0 then
    S_X6_hardness_c22 n 1 q3.2
  else
    some (0, q3.2)
set_option maxHeartbeats 2000000 in
theorem C_X6_hardness {l : Launch} {G : aG} {ad : Nat → Nat} {h0 : aH} (hok : mOk ad) (hl : l.stackTraces = false) {n : Nat} {st : MSt} {r : Int32 × MSt} (hf : S_X6_hardness n st = some r) : aC l G mX6_hardness (ws_ yX6_hardness cX6_hardness 3 (some .int)) 8 0 0 [.ref (ad 13)] (mh ad st h0) (aP1 (some (.int r.1)) (mh ad r.2 h0)) := by
  refine aC_of (M := mX6_hardness) rfl (by decide) (Nat.le_of_ble_eq_true rfl) hl ?_
  rw [S_X6_hardness] at hf
  refine aw_eqv (lv2 := [(0, .ref (ad 13))]) rfl rfl rfl rfl ?_
  refine aw_aload_n 0 dX6_hardness_0 rfl rfl ?_
  refine aw_iconst (v := 0) dX6_hardness_1 (by decide) ?_
  refine aw_put (mg_o hok) rfl in_X6 tyX6_ok nmX6 5 (by decide) q1744 (Or.inl rfl) rfl rfl rfl (Nat.le_of_ble_eq_true rfl) (mu_i2 hok) dX6_hardness_2 ?_
  refine aw_st (fun u1 eu1 => ?_)
  have hf := onm_a eu1 hf
  refine aw_aload_n 0 dX6_hardness_5 rfl rfl ?_
  refine aw_iconst (v := 0) dX6_hardness_6 (by decide) ?_
  obtain ⟨q2, eq2, hf⟩ := Option.bind_eq_some_iff.mp hf
  refine aw_callV (rest := []) (C_X6_loads hok hl eq2) (mg_o hok) rfl rfl nX6_loads q2009 q2011 qs78 q137 q2012 dX6_hardness_7 rfl (by decide) (by decide) (Nat.le_of_ble_eq_true rfl) (Nat.le_refl _) (Nat.le_refl _) (aP1_v ?_) aP1_x
  refine aw_aload_n 0 dX6_hardness_10 rfl rfl ?_
  refine aw_iconst (v := 0) dX6_hardness_11 (by decide) ?_
  obtain ⟨q3, eq3, hf⟩ := Option.bind_eq_some_iff.mp hf
  refine aw_callV (rest := []) (C_X6_isSolution hok hl eq3) (mg_o hok) rfl rfl nX6_isSolution q2036 q2038 qs83 q137 q2039 dX6_hardness_12 rfl (by decide) (by decide) (Nat.le_of_ble_eq_true rfl) (Nat.le_refl _) (Nat.le_refl _) (aP1_i ?_) aP1_x
  refine aw_if_eq 20 dX6_hardness_15 (by decide) (fun c4 => ?_) (fun c4 => ?_)
  · have hf := it_t c4 hf
    refine aw_iconst (v := 1) dX6_hardness_20 (by decide) ?_
    refine aw_istore_n (lv' := [(1, .int 1), (0, .ref (ad 13))]) dX6_hardness_21 rfl (Nat.le_of_ble_eq_true rfl) rfl ?_
    refine aw_sub [1, 0] rfl ?_
    exact A_X6_hardness_c22 hok hl n 1 q3.2 hf
  · have hf := it_f c4 hf
    refine aw_iconst (v := 0) dX6_hardness_18 (by decide) ?_
    cases hf
    exact aw_iret rfl dX6_hardness_19 aP1_rfl (Nat.le_refl _) (Nat.le_refl _)
abbrev mX6_isDone : aM := (yX6_isDone, cX6_isDone, 4, some .boolean, [])
theorem nX6_isDone : aNoMH yX6_isDone 1 := by decide +kernel
def S_X6_isDone_c4 (st : MSt) : Nat → Int32 → Int32 → Int32 → Option (Int32)
  | 0, _, _, _ => none
  | n + 1, x1, x2, x3 =>
    (S_X6_cells st).bind fun q1 =>
    if q1 ≤ x3 then
      onr .boolean x2 <|
      some x2
    else
      if x2 = 0 then
        S_X6_isDone_c4 st n x1 0 (x3 + 1)
      else
        ob (x1 + x3) 750 fun j5 =>
        (S_X6_isSettled n (st.2.1 5 j5) st).bind fun q7 =>
        if q7 = 0 then
          S_X6_isDone_c4 st n x1 0 (x3 + 1)
        else
          S_X6_isDone_c4 st n x1 1 (x3 + 1)
set_option maxHeartbeats 2000000 in
theorem A_X6_isDone_c4 {l : Launch} {G : aG} {ad : Nat → Nat} {h0 : aH} (hok : mOk ad) (hl : l.stackTraces = false) {r : Int32} {st : MSt} : ∀ (n : Nat) (x1 : Int32) (x2 : Int32) (x3 : Int32), S_X6_isDone_c4 st n x1 x2 x3 = some r → AW l G mX6_isDone 2 0 0 (aP1 (some (.int r)) (mh ad st h0)) 4 [(0, .ref (ad 13)), (1, .int x1), (2, .int x2), (3, .int x3)] [] (mh ad st h0) 0 0 := by
  intro n
  induction n with
  | zero =>
    intro x1 x2 x3 hf
    rw [S_X6_isDone_c4] at hf
    cases hf
  | succ n ih =>
    intro x1 x2 x3 hf
    rw [S_X6_isDone_c4] at hf
    refine aw_iload_n 3 dX6_isDone_4 rfl rfl ?_
    refine aw_aload_n 0 dX6_isDone_5 rfl rfl ?_
    obtain ⟨q1, eq1, hf⟩ := Option.bind_eq_some_iff.mp hf
    refine aw_callV (rest := [.int x3]) (C_X6_cells hok hl eq1) (mg_o hok) rfl rfl nX6_cells q1735 q1737 qs54 q137 q1738 dX6_isDone_6 rfl (by decide) (by decide) (Nat.le_of_ble_eq_true rfl) (Nat.le_refl _) (Nat.le_refl _) (aP1_i ?_) aP1_x
    refine aw_icmp_ge 43 dX6_isDone_9 (by decide) (fun c2 => ?_) (fun c2 => ?_)
    · have hf := it_t c2 hf
      refine aw_iload_n 2 dX6_isDone_43 rfl rfl ?_
      obtain ⟨z3, hf⟩ := onr_s hf
      cases hf
      exact aw_zret rfl z3 dX6_isDone_44 aP1_rfl (Nat.le_refl _) (Nat.le_refl _)
    · have hf := it_f c2 hf
      refine aw_iload_n 2 dX6_isDone_12 rfl rfl ?_
      refine aw_if_eq 35 dX6_isDone_13 (by decide) (fun c4 => ?_) (fun c4 => ?_)
      · have hf := it_t c4 hf
        refine aw_iconst (v := 0) dX6_isDone_35 (by decide) ?_
        refine aw_istore_n (lv' := [(2, .int 0), (0, .ref (ad 13)), (1, .int x1), (3, .int x3)]) dX6_isDone_36 rfl (Nat.le_of_ble_eq_true rfl) rfl ?_
        refine aw_iinc 3 (v := x3 + 1) (lv' := [(3, .int (x3 + 1)), (2, .int 0), (0, .ref (ad 13)), (1, .int x1)]) dX6_isDone_37 rfl rfl (Nat.le_of_ble_eq_true rfl) rfl ?_
        refine aw_goto 4 dX6_isDone_40 (by decide) ?_
        refine aw_sub [2, 3, 1, 0] rfl ?_
        exact ih x1 0 (x3 + 1) hf
      · have hf := it_f c4 hf
        refine aw_aload_n 0 dX6_isDone_16 rfl rfl ?_
        refine aw_aload_n 0 dX6_isDone_17 rfl rfl ?_
        refine aw_get (v := .ref (ad 5)) (mg_o hok) rfl in_X6 15 (by decide) q1754 (Or.inl rfl) rfl dX6_isDone_18 ?_
        refine aw_iload_n 1 dX6_isDone_21 rfl rfl ?_
        refine aw_iload_n 3 dX6_isDone_22 rfl rfl ?_
        refine aw_iadd dX6_isDone_23 ?_
        obtain ⟨j5, z6, ej5, hf⟩ := ob_s hf
        refine aw_ialdj (mg_5 hok) z6 ej5 dX6_isDone_24 ?_
        obtain ⟨q7, eq7, hf⟩ := Option.bind_eq_some_iff.mp hf
        refine aw_callV (rest := []) (C_X6_isSettled hok hl eq7) (mg_o hok) rfl rfl nX6_isSettled q1994 q1996 qs76 q137 q1997 dX6_isDone_25 rfl (by decide) (by decide) (Nat.le_of_ble_eq_true rfl) (Nat.le_refl _) (Nat.le_refl _) (aP1_i ?_) aP1_x
        refine aw_if_eq 35 dX6_isDone_28 (by decide) (fun c8 => ?_) (fun c8 => ?_)
        · have hf := it_t c8 hf
          refine aw_iconst (v := 0) dX6_isDone_35 (by decide) ?_
          refine aw_istore_n (lv' := [(2, .int 0), (0, .ref (ad 13)), (1, .int x1), (3, .int x3)]) dX6_isDone_36 rfl (Nat.le_of_ble_eq_true rfl) rfl ?_
          refine aw_iinc 3 (v := x3 + 1) (lv' := [(3, .int (x3 + 1)), (2, .int 0), (0, .ref (ad 13)), (1, .int x1)]) dX6_isDone_37 rfl rfl (Nat.le_of_ble_eq_true rfl) rfl ?_
          refine aw_goto 4 dX6_isDone_40 (by decide) ?_
          refine aw_sub [2, 3, 1, 0] rfl ?_
          exact ih x1 0 (x3 + 1) hf
        · have hf := it_f c8 hf
          refine aw_iconst (v := 1) dX6_isDone_31 (by decide) ?_
          refine aw_goto 36 dX6_isDone_32 (by decide) ?_
          refine aw_istore_n (lv' := [(2, .int 1), (0, .ref (ad 13)), (1, .int x1), (3, .int x3)]) dX6_isDone_36 rfl (Nat.le_of_ble_eq_true rfl) rfl ?_
          refine aw_iinc 3 (v := x3 + 1) (lv' := [(3, .int (x3 + 1)), (2, .int 1), (0, .ref (ad 13)), (1, .int x1)]) dX6_isDone_37 rfl rfl (Nat.le_of_ble_eq_true rfl) rfl ?_
          refine aw_goto 4 dX6_isDone_40 (by decide) ?_
          refine aw_sub [2, 3, 1, 0] rfl ?_
          exact ih x1 1 (x3 + 1) hf
def S_X6_isDone (n : Nat) (x1 : Int32) (st : MSt) : Option (Int32) :=
  S_X6_isDone_c4 st n x1 1 0
set_option maxHeartbeats 2000000 in
theorem C_X6_isDone {l : Launch} {G : aG} {ad : Nat → Nat} {h0 : aH} (hok : mOk ad) (hl : l.stackTraces = false) {n : Nat} {x1 : Int32} {st : MSt} {r : Int32} (hf : S_X6_isDone n x1 st = some r) : aC l G mX6_isDone (ws_ yX6_isDone cX6_isDone 4 (some .boolean)) 2 0 0 [.ref (ad 13), .int x1] (mh ad st h0) (aP1 (some (.int r)) (mh ad st h0)) := by
  refine aC_of (M := mX6_isDone) rfl (by decide) (Nat.le_of_ble_eq_true rfl) hl ?_
  rw [S_X6_isDone] at hf
  refine aw_eqv (lv2 := [(0, .ref (ad 13)), (1, .int x1)]) rfl rfl rfl rfl ?_
  refine aw_iconst (v := 1) dX6_isDone_0 (by decide) ?_
  refine aw_istore_n (lv' := [(2, .int 1), (0, .ref (ad 13)), (1, .int x1)]) dX6_isDone_1 rfl (Nat.le_of_ble_eq_true rfl) rfl ?_
  refine aw_iconst (v := 0) dX6_isDone_2 (by decide) ?_
  refine aw_istore_n (lv' := [(3, .int 0), (2, .int 1), (0, .ref (ad 13)), (1, .int x1)]) dX6_isDone_3 rfl (Nat.le_of_ble_eq_true rfl) rfl ?_
  refine aw_sub [2, 3, 1, 0] rfl ?_
  exact A_X6_isDone_c4 hok hl n x1 1 0 hf
abbrev mX6_finds : aM := (yX6_finds, cX6_finds, 5, none, [])
theorem nX6_finds : aNoMH yX6_finds 2 := by decide +kernel
def S_X6_finds_j66 (K25 : Int32 → Int32 → Int32 → MSt → Option (MSt)) (n : Nat) (x1 : Int32) (x2 : Int32) (x3 : Int32) (x4 : Int32) (xs0 : Int32) (xs1 : Int32) (st : MSt) : Option (MSt) :=
  ob xs1 25 fun j11 =>
  onm (mA st 10 j11 xs0) fun u13 =>
  ob x3 25 fun j14 =>
  if x4 = (u13.2.1 10 j14) then
    onm (mJ u13 (u13.2.2 &&& ((-1) : Int64))) fun u18 =>
    K25 x1 x2 (x3 + 1) u18
  else
    onm (mJ u13 (u13.2.2 &&& (((1 : Int64) <<< (x3.toInt64 &&& 63)) ^^^ ((-1) : Int64)))) fun u17 =>
    K25 x1 x2 (x3 + 1) u17
set_option maxHeartbeats 2000000 in
theorem A_X6_finds_j66 {l : Launch} {G : aG} {ad : Nat → Nat} {h0 : aH} (hok : mOk ad) (hl : l.stackTraces = false) {r : MSt} {K25 : Int32 → Int32 → Int32 → MSt → Option (MSt)} (hK25 : ∀ (w1 : Int32) (w2 : Int32) (w3 : Int32) (st : MSt), K25 w1 w2 w3 st = some r → AW l G mX6_finds 1 0 0 (aP1 none (mh ad r h0)) 25 [(0, .ref (ad 13)), (1, .int w1), (2, .int w2), (3, .int w3)] [] (mh ad st h0) 0 0) : ∀ (n : Nat) (x1 : Int32) (x2 : Int32) (x3 : Int32) (x4 : Int32) (xs0 : Int32) (xs1 : Int32) (st : MSt), S_X6_finds_j66 K25 n x1 x2 x3 x4 xs0 xs1 st = some r → AW l G mX6_finds 1 0 0 (aP1 none (mh ad r h0)) 66 [(0, .ref (ad 13)), (1, .int x1), (2, .int x2), (3, .int x3), (4, .int x4)] [.int xs0, .int xs1, .ref (ad 10)] (mh ad st h0) 0 0 := by
  intro n x1 x2 x3 x4 xs0 xs1 st hf
  rw [S_X6_finds_j66] at hf
  obtain ⟨j11, z12, ej11, hf⟩ := ob_s hf
  refine aw_iastj (mg_10 hok) z12 ej11 (mu_10 hok) dX6_finds_66 ?_
  refine aw_st (fun u13 eu13 => ?_)
  have hf := onm_a eu13 hf
  refine aw_aload_n 0 dX6_finds_67 rfl rfl ?_
  refine aw_dup dX6_finds_68 rfl ?_
  refine aw_get (v := .long u13.2.2) (mg_o hok) rfl in_X6 21 (by decide) q1760 (Or.inl rfl) rfl dX6_finds_69 ?_
  refine aw_iload 4 dX6_finds_72 rfl ?_
  refine aw_aload_n 0 dX6_finds_74 rfl rfl ?_
  refine aw_get (v := .ref (ad 10)) (mg_o hok) rfl in_X6 20 (by decide) q1759 (Or.inl rfl) rfl dX6_finds_75 ?_
  refine aw_iload_n 3 dX6_finds_78 rfl rfl ?_
  obtain ⟨j14, z15, ej14, hf⟩ := ob_s hf
  refine aw_ialdj (mg_10 hok) z15 ej14 dX6_finds_79 ?_
  refine aw_icmp_ne 89 dX6_finds_80 (by decide) (fun c16 => ?_) (fun c16 => ?_)
  · have hf := it_f c16 hf
    refine aw_lconst (v := 1) dX6_finds_89 (by decide) ?_
    refine aw_iload_n 3 dX6_finds_90 rfl rfl ?_
    refine aw_lshl dX6_finds_91 ?_
    refine aw_ldc2 (v := (-1)) q2174 dX6_finds_92 ?_
    refine aw_lxor dX6_finds_95 ?_
    refine aw_land dX6_finds_96 ?_
    refine aw_put (mg_o hok) rfl in_X6 tyX6_ok nmX6 21 (by decide) q1760 (Or.inl rfl) rfl rfl rfl (Nat.le_of_ble_eq_true rfl) (mu_same hok) dX6_finds_97 ?_
    refine aw_st (fun u17 eu17 => ?_)
    have hf := onm_a eu17 hf
    refine aw_iinc 3 (v := x3 + 1) (lv' := [(3, .int (x3 + 1)), (0, .ref (ad 13)), (1, .int x1), (2, .int x2), (4, .int x4)]) dX6_finds_100 rfl rfl (Nat.le_of_ble_eq_true rfl) rfl ?_
    refine aw_goto 25 dX6_finds_103 (by decide) ?_
    refine aw_sub [1, 2, 3, 0] rfl ?_
    exact hK25 x1 x2 (x3 + 1) u17 hf
  · have hf := it_t c16 hf
    refine aw_ldc2 (v := (-1)) q2174 dX6_finds_83 ?_
    refine aw_goto 96 dX6_finds_86 (by decide) ?_
    refine aw_land dX6_finds_96 ?_
    refine aw_put (mg_o hok) rfl in_X6 tyX6_ok nmX6 21 (by decide) q1760 (Or.inl rfl) rfl rfl rfl (Nat.le_of_ble_eq_true rfl) (mu_same hok) dX6_finds_97 ?_
    refine aw_st (fun u18 eu18 => ?_)
    have hf := onm_a eu18 hf
    refine aw_iinc 3 (v := x3 + 1) (lv' := [(3, .int (x3 + 1)), (0, .ref (ad 13)), (1, .int x1), (2, .int x2), (4, .int x4)]) dX6_finds_100 rfl rfl (Nat.le_of_ble_eq_true rfl) rfl ?_
    refine aw_goto 25 dX6_finds_103 (by decide) ?_
    refine aw_sub [1, 2, 3, 0] rfl ?_
    exact hK25 x1 x2 (x3 + 1) u18 hf
def S_X6_finds_c25 : Nat → Int32 → Int32 → Int32 → MSt → Option (MSt)
  | 0, _, _, _, _ => none
  | n + 1, x1, x2, x3, st =>
    (S_X6_cells st).bind fun q3 =>
    if q3 ≤ x3 then
      some st
    else
      ob (x1 + x3) 750 fun j5 =>
      (S_X6_only n (st.2.1 5 j5)).bind fun q7 =>
      if x2 = 0 then
        S_X6_finds_j66 (S_X6_finds_c25 n) n x1 x2 x3 q7 q7 x3 st
      else
        ob x3 25 fun j9 =>
        S_X6_finds_j66 (S_X6_finds_c25 n) n x1 x2 x3 q7 (st.2.1 10 j9) x3 st
set_option maxHeartbeats 2000000 in
theorem A_X6_finds_c25 {l : Launch} {G : aG} {ad : Nat → Nat} {h0 : aH} (hok : mOk ad) (hl : l.stackTraces = false) {r : MSt} : ∀ (n : Nat) (x1 : Int32) (x2 : Int32) (x3 : Int32) (st : MSt), S_X6_finds_c25 n x1 x2 x3 st = some r → AW l G mX6_finds 1 0 0 (aP1 none (mh ad r h0)) 25 [(0, .ref (ad 13)), (1, .int x1), (2, .int x2), (3, .int x3)] [] (mh ad st h0) 0 0 := by
  intro n
  induction n with
  | zero =>
    intro x1 x2 x3 st hf
    rw [S_X6_finds_c25] at hf
    cases hf
  | succ n ih =>
    intro x1 x2 x3 st hf
    rw [S_X6_finds_c25] at hf
    refine aw_iload_n 3 dX6_finds_25 rfl rfl ?_
    refine aw_aload_n 0 dX6_finds_26 rfl rfl ?_
    obtain ⟨q3, eq3, hf⟩ := Option.bind_eq_some_iff.mp hf
    refine aw_callV (rest := [.int x3]) (C_X6_cells hok hl eq3) (mg_o hok) rfl rfl nX6_cells q1735 q1737 qs54 q137 q1738 dX6_finds_27 rfl (by decide) (by decide) (Nat.le_of_ble_eq_true rfl) (Nat.le_refl _) (Nat.le_refl _) (aP1_i ?_) aP1_x
    refine aw_icmp_ge 106 dX6_finds_30 (by decide) (fun c4 => ?_) (fun c4 => ?_)
    · have hf := it_t c4 hf
      cases hf
      exact aw_vret rfl dX6_finds_106 aP1_rfl (Nat.le_refl _) (Nat.le_refl _)
    · have hf := it_f c4 hf
      refine aw_aload_n 0 dX6_finds_33 rfl rfl ?_
      refine aw_get (v := .ref (ad 5)) (mg_o hok) rfl in_X6 15 (by decide) q1754 (Or.inl rfl) rfl dX6_finds_34 ?_
      refine aw_iload_n 1 dX6_finds_37 rfl rfl ?_
      refine aw_iload_n 3 dX6_finds_38 rfl rfl ?_
      refine aw_iadd dX6_finds_39 ?_
      obtain ⟨j5, z6, ej5, hf⟩ := ob_s hf
      refine aw_ialdj (mg_5 hok) z6 ej5 dX6_finds_40 ?_
      obtain ⟨q7, eq7, hf⟩ := Option.bind_eq_some_iff.mp hf
      refine aw_callS (rest := []) (C_X6_only hl eq7) nX6_only q2067 q2068 q137 q2069 dX6_finds_41 rfl (by decide) (by decide) (Nat.le_of_ble_eq_true rfl) (Nat.le_refl _) (Nat.le_refl _) (aP1_i ?_) aP1_x
      refine aw_istore (lv' := [(4, .int q7), (0, .ref (ad 13)), (1, .int x1), (2, .int x2), (3, .int x3)]) dX6_finds_44 (Nat.le_of_ble_eq_true rfl) rfl ?_
      refine aw_aload_n 1 dX6_finds_46 rfl rfl ?_
      refine aw_get (v := .ref (ad 10)) (mg_o hok) rfl in_X6 20 (by decide) q1759 (Or.inl rfl) rfl dX6_finds_47 ?_
      refine aw_iload_n 4 dX6_finds_50 rfl rfl ?_
      refine aw_iload_n 3 dX6_finds_51 rfl rfl ?_
      refine aw_if_ne 60 dX6_finds_52 (by decide) (fun c8 => ?_) (fun c8 => ?_)
      · have hf := it_f c8 hf
        refine aw_aload_n 1 dX6_finds_60 rfl rfl ?_
        refine aw_get (v := .ref (ad 10)) (mg_o hok) rfl in_X6 20 (by decide) q1759 (Or.inl rfl) rfl dX6_finds_61 ?_
        refine aw_iload_n 4 dX6_finds_64 rfl rfl ?_
        obtain ⟨j9, z10, ej9, hf⟩ := ob_s hf
        refine aw_ialdj (mg_10 hok) z10 ej9 dX6_finds_65 ?_
        refine aw_sub [1, 2, 3, 4, 0] rfl ?_
        exact A_X6_finds_j66 hok hl (fun w1 w2 w3 wst hf => ih w1 w2 w3 wst hf) n x1 x2 x3 q7 (st.2.1 10 j9) x3 st hf
      · have hf := it_t c8 hf
        refine aw_iload 0 dX6_finds_55 rfl ?_
        refine aw_goto 66 dX6_finds_57 (by decide) ?_
        refine aw_sub [1, 2, 3, 4, 0] rfl ?_
        exact A_X6_finds_j66 hok hl (fun w1 w2 w3 wst hf => ih w1 w2 w3 wst hf) n x1 x2 x3 q7 q7 x3 st hf
def S_X6_finds (n : Nat) (x1 : Int32) (x2 : Int32) (st : MSt) : Option (MSt) :=
  if x2 = 0 then
    (S_X6_cells st).bind fun q11 =>
    onm (mJ st (((1 : Int64) <<< (q11.toInt64 &&& 63)) - (1 : Int64))) fun u12 =>
    S_X6_finds_c25 n x1 x2 0 u12
  else
    onm (mJ st st.2.2) fun u2 =>
    S_X6_finds_c25 n x1 x2 0 u2
set_option maxHeartbeats 2000000 in
theorem C_X6_finds {l : Launch} {G : aG} {ad : Nat → Nat} {h0 : aH} (hok : mOk ad) (hl : l.stackTraces = false) {n : Nat} {x1 : Int32} {x2 : Int32} {st : MSt} {r : MSt} (hf : S_X6_finds n x1 x2 st = some r) : aC l G mX6_finds (ws_ yX6_finds cX6_finds 5 none) 1 0 0 [.ref (ad 13), .int x1, .int x2] (mh ad st h0) (aP1 none (mh ad r h0)) := by
  refine aC_of (M := mX6_finds) rfl (by decide) (Nat.le_of_ble_eq_true rfl) hl ?_
  rw [S_X6_finds] at hf
  refine aw_eqv (lv2 := [(0, .ref (ad 13)), (1, .int x1), (2, .int x2)]) rfl rfl rfl rfl ?_
  refine aw_aload_n 0 dX6_finds_0 rfl rfl ?_
  refine aw_iload_n 2 dX6_finds_1 rfl rfl ?_
  refine aw_if_ne 16 dX6_finds_2 (by decide) (fun c1 => ?_) (fun c1 => ?_)
  · have hf := it_f c1 hf
    refine aw_aload_n 0 dX6_finds_16 rfl rfl ?_
    refine aw_get (v := .long st.2.2) (mg_o hok) rfl in_X6 21 (by decide) q1760 (Or.inl rfl) rfl dX6_finds_17 ?_
    refine aw_put (mg_o hok) rfl in_X6 tyX6_ok nmX6 21 (by decide) q1760 (Or.inl rfl) rfl rfl rfl (Nat.le_of_ble_eq_true rfl) (mu_same hok) dX6_finds_20 ?_
    refine aw_st (fun u2 eu2 => ?_)
    have hf := onm_a eu2 hf
    refine aw_iconst (v := 0) dX6_finds_23 (by decide) ?_
    refine aw_istore_n (lv' := [(3, .int 0), (0, .ref (ad 13)), (1, .int x1), (2, .int x2)]) dX6_finds_24 rfl (Nat.le_of_ble_eq_true rfl) rfl ?_
    refine aw_sub [1, 2, 3, 0] rfl ?_
    exact A_X6_finds_c25 hok hl n x1 x2 0 u2 hf
  · have hf := it_t c1 hf
    refine aw_lconst (v := 1) dX6_finds_5 (by decide) ?_
    refine aw_aload_n 0 dX6_finds_6 rfl rfl ?_
    obtain ⟨q11, eq11, hf⟩ := Option.bind_eq_some_iff.mp hf
    refine aw_callV (rest := [.long 1, .ref (ad 13)]) (C_X6_cells hok hl eq11) (mg_o hok) rfl rfl nX6_cells q1735 q1737 qs54 q137 q1738 dX6_finds_7 rfl (by decide) (by decide) (Nat.le_of_ble_eq_true rfl) (Nat.le_refl _) (Nat.le_refl _) (aP1_i ?_) aP1_x
    refine aw_lshl dX6_finds_10 ?_
    refine aw_lconst (v := 1) dX6_finds_11 (by decide) ?_
    refine aw_lsub dX6_finds_12 ?_
    refine aw_goto 20 dX6_finds_13 (by decide) ?_
    refine aw_put (mg_o hok) rfl in_X6 tyX6_ok nmX6 21 (by decide) q1760 (Or.inl rfl) rfl rfl rfl (Nat.le_of_ble_eq_true rfl) (mu_same hok) dX6_finds_20 ?_
    refine aw_st (fun u12 eu12 => ?_)
    have hf := onm_a eu12 hf
    refine aw_iconst (v := 0) dX6_finds_23 (by decide) ?_
    refine aw_istore_n (lv' := [(3, .int 0), (0, .ref (ad 13)), (1, .int x1), (2, .int x2)]) dX6_finds_24 rfl (Nat.le_of_ble_eq_true rfl) rfl ?_
    refine aw_sub [1, 2, 3, 0] rfl ?_
    exact A_X6_finds_c25 hok hl n x1 x2 0 u12 hf
