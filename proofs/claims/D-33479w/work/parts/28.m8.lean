/-! the model: shallow functions and walks (printed by gen.py) -/
set_option maxRecDepth 100000
abbrev mX6_solutionsByRows : aM := (yX6_solutionsByRows, cX6_solutionsByRows, 4, some .int, [])
theorem nX6_solutionsByRows : aNoMH yX6_solutionsByRows 0 := by decide +kernel
def S_X6_solutionsByRows_c52 (K86 : Int32 → Int32 → Int32 → MSt → Option (Int32 × MSt)) : Nat → Int32 → Int32 → Int32 → MSt → Option (Int32 × MSt)
  | 0, _, _, _, _ => none
  | n + 1, x1, x2, x3, st =>
    if (st.1 9) ≤ x3 then
      K86 x1 x2 x3 st
    else
      (S_X6_fits n 50 x2 x3 st).bind fun q12 =>
      if q12 = 0 then
        S_X6_solutionsByRows_c52 K86 n x1 x2 (x3 + 1) st
      else
        (S_X6_stands n x2 x3 st).bind fun q14 =>
        if q14 = 0 then
          S_X6_solutionsByRows_c52 K86 n x1 x2 (x3 + 1) st
        else
          K86 x1 x2 x3 st
set_option maxHeartbeats 2000000 in
theorem A_X6_solutionsByRows_c52 {l : Launch} {G : aG} {ad : Nat → Nat} {h0 : aH} (hok : mOk ad) (hl : l.stackTraces = false) {r : Int32 × MSt} {K86 : Int32 → Int32 → Int32 → MSt → Option (Int32 × MSt)} (hK86 : ∀ (w1 : Int32) (w2 : Int32) (w3 : Int32) (st : MSt), K86 w1 w2 w3 st = some r → AW l G mX6_solutionsByRows 5 0 0 (aP1 (some (.int r.1)) (mh ad r.2 h0)) 86 [(0, .ref (ad 13)), (1, .int w1), (2, .int w2), (3, .int w3)] [] (mh ad st h0) 0 0) : ∀ (n : Nat) (x1 : Int32) (x2 : Int32) (x3 : Int32) (st : MSt), S_X6_solutionsByRows_c52 K86 n x1 x2 x3 st = some r → AW l G mX6_solutionsByRows 5 0 0 (aP1 (some (.int r.1)) (mh ad r.2 h0)) 52 [(0, .ref (ad 13)), (1, .int x1), (2, .int x2), (3, .int x3)] [] (mh ad st h0) 0 0 := by
  intro n
  induction n with
  | zero =>
    intro x1 x2 x3 st hf
    rw [S_X6_solutionsByRows_c52] at hf
    cases hf
  | succ n ih =>
    intro x1 x2 x3 st hf
    rw [S_X6_solutionsByRows_c52] at hf
    refine aw_iload_n 3 dX6_solutionsByRows_52 rfl rfl ?_
    refine aw_aload_n 0 dX6_solutionsByRows_53 rfl rfl ?_
    refine aw_get (v := .int (st.1 9)) (mg_o hok) rfl in_X6 12 (by decide) q1751 (Or.inl rfl) rfl dX6_solutionsByRows_54 ?_
    refine aw_icmp_ge 86 dX6_solutionsByRows_57 (by decide) (fun c11 => ?_) (fun c11 => ?_)
    · have hf := it_t c11 hf
      exact hK86 x1 x2 x3 st hf
    · have hf := it_f c11 hf
      refine aw_aload_n 0 dX6_solutionsByRows_60 rfl rfl ?_
      refine aw_bipush (v := 50) dX6_solutionsByRows_61 (by decide) ?_
      refine aw_iload_n 2 dX6_solutionsByRows_63 rfl rfl ?_
      refine aw_iload_n 3 dX6_solutionsByRows_64 rfl rfl ?_
      obtain ⟨q12, eq12, hf⟩ := Option.bind_eq_some_iff.mp hf
      refine aw_callV (rest := []) (C_X6_fits hok hl eq12) (mg_o hok) rfl rfl nX6_fits q2021 q2023 qs81 q137 q2024 dX6_solutionsByRows_65 rfl (by decide) (by decide) (Nat.le_of_ble_eq_true rfl) (Nat.le_refl _) (Nat.le_refl _) (aP1_i ?_) aP1_x
      refine aw_if_eq 80 dX6_solutionsByRows_68 (by decide) (fun c13 => ?_) (fun c13 => ?_)
      · have hf := it_t c13 hf
        refine aw_iinc 3 (v := x3 + 1) (lv' := [(3, .int (x3 + 1)), (0, .ref (ad 13)), (1, .int x1), (2, .int x2)]) dX6_solutionsByRows_80 rfl rfl (Nat.le_of_ble_eq_true rfl) rfl ?_
        refine aw_goto 52 dX6_solutionsByRows_83 (by decide) ?_
        refine aw_sub [1, 2, 3, 0] rfl ?_
        exact ih x1 x2 (x3 + 1) st hf
      · have hf := it_f c13 hf
        refine aw_aload_n 0 dX6_solutionsByRows_71 rfl rfl ?_
        refine aw_iload_n 2 dX6_solutionsByRows_72 rfl rfl ?_
        refine aw_iload_n 3 dX6_solutionsByRows_73 rfl rfl ?_
        obtain ⟨q14, eq14, hf⟩ := Option.bind_eq_some_iff.mp hf
        refine aw_callV (rest := []) (C_X6_stands hok hl eq14) (mg_o hok) rfl rfl nX6_stands q2187 q2189 qs106 q137 q2190 dX6_solutionsByRows_74 rfl (by decide) (by decide) (Nat.le_of_ble_eq_true rfl) (Nat.le_refl _) (Nat.le_refl _) (aP1_i ?_) aP1_x
        refine aw_if_ne 86 dX6_solutionsByRows_77 (by decide) (fun c15 => ?_) (fun c15 => ?_)
        · have hf := it_f c15 hf
          exact hK86 x1 x2 x3 st hf
        · have hf := it_t c15 hf
          refine aw_iinc 3 (v := x3 + 1) (lv' := [(3, .int (x3 + 1)), (0, .ref (ad 13)), (1, .int x1), (2, .int x2)]) dX6_solutionsByRows_80 rfl rfl (Nat.le_of_ble_eq_true rfl) rfl ?_
          refine aw_goto 52 dX6_solutionsByRows_83 (by decide) ?_
          refine aw_sub [1, 2, 3, 0] rfl ?_
          exact ih x1 x2 (x3 + 1) st hf
def S_X6_solutionsByRows_j86 (K32 : Int32 → Int32 → MSt → Option (Int32 × MSt)) (n : Nat) (x1 : Int32) (x2 : Int32) (x3 : Int32) (st : MSt) : Option (Int32 × MSt) :=
  ob x2 27 fun j18 =>
  onm (mA st 9 j18 x3) fun u20 =>
  if x3 = (u20.1 9) then
    K32 x1 (x2 + (-1)) u20
  else
    if x2 = ((u20.2.1 0 0) - (1 : Int32)) then
      K32 (x1 + 1) x2 u20
    else
      ob (x2 + 1) 27 fun j23 =>
      onm (mA u20 9 j23 ((-1))) fun u25 =>
      K32 x1 (x2 + 1) u25
set_option maxHeartbeats 2000000 in
theorem A_X6_solutionsByRows_j86 {l : Launch} {G : aG} {ad : Nat → Nat} {h0 : aH} (hok : mOk ad) (hl : l.stackTraces = false) {r : Int32 × MSt} {K32 : Int32 → Int32 → MSt → Option (Int32 × MSt)} (hK32 : ∀ (w1 : Int32) (w2 : Int32) (st : MSt), K32 w1 w2 st = some r → AW l G mX6_solutionsByRows 5 0 0 (aP1 (some (.int r.1)) (mh ad r.2 h0)) 32 [(0, .ref (ad 13)), (1, .int w1), (2, .int w2)] [] (mh ad st h0) 0 0) : ∀ (n : Nat) (x1 : Int32) (x2 : Int32) (x3 : Int32) (st : MSt), S_X6_solutionsByRows_j86 K32 n x1 x2 x3 st = some r → AW l G mX6_solutionsByRows 5 0 0 (aP1 (some (.int r.1)) (mh ad r.2 h0)) 86 [(0, .ref (ad 13)), (1, .int x1), (2, .int x2), (3, .int x3)] [] (mh ad st h0) 0 0 := by
  intro n x1 x2 x3 st hf
  rw [S_X6_solutionsByRows_j86] at hf
  refine aw_aload_n 0 dX6_solutionsByRows_86 rfl rfl ?_
  refine aw_get (v := .ref (ad 9)) (mg_o hok) rfl in_X6 19 (by decide) q1758 (Or.inl rfl) rfl dX6_solutionsByRows_87 ?_
  refine aw_iload_n 2 dX6_solutionsByRows_90 rfl rfl ?_
  refine aw_iload_n 3 dX6_solutionsByRows_91 rfl rfl ?_
  obtain ⟨j18, z19, ej18, hf⟩ := ob_s hf
  refine aw_iastj (mg_9 hok) z19 ej18 (mu_9 hok) dX6_solutionsByRows_92 ?_
  refine aw_st (fun u20 eu20 => ?_)
  have hf := onm_a eu20 hf
  refine aw_iload_n 3 dX6_solutionsByRows_93 rfl rfl ?_
  refine aw_aload_n 0 dX6_solutionsByRows_94 rfl rfl ?_
  refine aw_get (v := .int (u20.1 9)) (mg_o hok) rfl in_X6 12 (by decide) q1751 (Or.inl rfl) rfl dX6_solutionsByRows_95 ?_
  refine aw_icmp_ne 107 dX6_solutionsByRows_98 (by decide) (fun c21 => ?_) (fun c21 => ?_)
  · have hf := it_f c21 hf
    refine aw_iload_n 2 dX6_solutionsByRows_107 rfl rfl ?_
    refine aw_aload_n 0 dX6_solutionsByRows_108 rfl rfl ?_
    refine aw_get (v := .ref (ad 0)) (mg_o hok) rfl in_X6 0 (by decide) q1739 (Or.inl rfl) rfl dX6_solutionsByRows_109 ?_
    refine aw_iconst (v := 0) dX6_solutionsByRows_112 (by decide) ?_
    refine aw_ialdj (j := 0) (mg_0 hok) (vpc (by decide)) (by decide) dX6_solutionsByRows_113 ?_
    refine aw_iconst (v := 1) dX6_solutionsByRows_114 (by decide) ?_
    refine aw_isub dX6_solutionsByRows_115 ?_
    refine aw_icmp_ne 125 dX6_solutionsByRows_116 (by decide) (fun c22 => ?_) (fun c22 => ?_)
    · have hf := it_f c22 hf
      refine aw_iinc 2 (v := x2 + 1) (lv' := [(2, .int (x2 + 1)), (0, .ref (ad 13)), (1, .int x1), (3, .int x3)]) dX6_solutionsByRows_125 rfl rfl (Nat.le_of_ble_eq_true rfl) rfl ?_
      refine aw_aload_n 1 dX6_solutionsByRows_128 rfl rfl ?_
      refine aw_get (v := .ref (ad 9)) (mg_o hok) rfl in_X6 19 (by decide) q1758 (Or.inl rfl) rfl dX6_solutionsByRows_129 ?_
      refine aw_iload_n 0 dX6_solutionsByRows_132 rfl rfl ?_
      refine aw_iconst (v := (-1)) dX6_solutionsByRows_133 (by decide) ?_
      obtain ⟨j23, z24, ej23, hf⟩ := ob_s hf
      refine aw_iastj (mg_9 hok) z24 ej23 (mu_9 hok) dX6_solutionsByRows_134 ?_
      refine aw_st (fun u25 eu25 => ?_)
      have hf := onm_a eu25 hf
      refine aw_goto 32 dX6_solutionsByRows_135 (by decide) ?_
      refine aw_sub [1, 2, 0] rfl ?_
      exact hK32 x1 (x2 + 1) u25 hf
    · have hf := it_t c22 hf
      refine aw_iinc 1 (v := x1 + 1) (lv' := [(1, .int (x1 + 1)), (0, .ref (ad 13)), (2, .int x2), (3, .int x3)]) dX6_solutionsByRows_119 rfl rfl (Nat.le_of_ble_eq_true rfl) rfl ?_
      refine aw_goto 135 dX6_solutionsByRows_122 (by decide) ?_
      refine aw_goto 32 dX6_solutionsByRows_135 (by decide) ?_
      refine aw_sub [1, 0, 2] rfl ?_
      exact hK32 (x1 + 1) x2 u20 hf
  · have hf := it_t c21 hf
    refine aw_iinc 2 (v := x2 + (-1)) (lv' := [(2, .int (x2 + (-1))), (0, .ref (ad 13)), (1, .int x1), (3, .int x3)]) dX6_solutionsByRows_101 rfl rfl (Nat.le_of_ble_eq_true rfl) rfl ?_
    refine aw_goto 135 dX6_solutionsByRows_104 (by decide) ?_
    refine aw_goto 32 dX6_solutionsByRows_135 (by decide) ?_
    refine aw_sub [1, 2, 0] rfl ?_
    exact hK32 x1 (x2 + (-1)) u20 hf
def S_X6_solutionsByRows_c32 : Nat → Int32 → Int32 → MSt → Option (Int32 × MSt)
  | 0, _, _, _ => none
  | n + 1, x1, x2, st =>
    if x2 < 0 then
      some (x1, st)
    else
      if 200 ≤ x1 then
        some (x1, st)
      else
        ob x2 27 fun j8 =>
        onm ((st.2.1 9 j8) + (1 : Int32)) fun v10 =>
        S_X6_solutionsByRows_c52
          (fun y11_1 y11_2 y11_3 u12 => 
              S_X6_solutionsByRows_j86 (S_X6_solutionsByRows_c32 n) n y11_1 y11_2 y11_3 u12)
           n x1 x2 v10 st
set_option maxHeartbeats 2000000 in
theorem A_X6_solutionsByRows_c32 {l : Launch} {G : aG} {ad : Nat → Nat} {h0 : aH} (hok : mOk ad) (hl : l.stackTraces = false) {r : Int32 × MSt} : ∀ (n : Nat) (x1 : Int32) (x2 : Int32) (st : MSt), S_X6_solutionsByRows_c32 n x1 x2 st = some r → AW l G mX6_solutionsByRows 5 0 0 (aP1 (some (.int r.1)) (mh ad r.2 h0)) 32 [(0, .ref (ad 13)), (1, .int x1), (2, .int x2)] [] (mh ad st h0) 0 0 := by
  intro n
  induction n with
  | zero =>
    intro x1 x2 st hf
    rw [S_X6_solutionsByRows_c32] at hf
    cases hf
  | succ n ih =>
    intro x1 x2 st hf
    rw [S_X6_solutionsByRows_c32] at hf
    refine aw_iload_n 2 dX6_solutionsByRows_32 rfl rfl ?_
    refine aw_if_lt 138 dX6_solutionsByRows_33 (by decide) (fun c6 => ?_) (fun c6 => ?_)
    · have hf := it_t c6 hf
      refine aw_iload_n 1 dX6_solutionsByRows_138 rfl rfl ?_
      cases hf
      exact aw_iret rfl dX6_solutionsByRows_139 aP1_rfl (Nat.le_refl _) (Nat.le_refl _)
    · have hf := it_f c6 hf
      refine aw_iload_n 1 dX6_solutionsByRows_36 rfl rfl ?_
      refine aw_sipush (v := 200) dX6_solutionsByRows_37 (by decide) ?_
      refine aw_icmp_ge 138 dX6_solutionsByRows_40 (by decide) (fun c7 => ?_) (fun c7 => ?_)
      · have hf := it_t c7 hf
        refine aw_iload_n 1 dX6_solutionsByRows_138 rfl rfl ?_
        cases hf
        exact aw_iret rfl dX6_solutionsByRows_139 aP1_rfl (Nat.le_refl _) (Nat.le_refl _)
      · have hf := it_f c7 hf
        refine aw_aload_n 0 dX6_solutionsByRows_43 rfl rfl ?_
        refine aw_get (v := .ref (ad 9)) (mg_o hok) rfl in_X6 19 (by decide) q1758 (Or.inl rfl) rfl dX6_solutionsByRows_44 ?_
        refine aw_iload_n 2 dX6_solutionsByRows_47 rfl rfl ?_
        obtain ⟨j8, z9, ej8, hf⟩ := ob_s hf
        refine aw_ialdj (mg_9 hok) z9 ej8 dX6_solutionsByRows_48 ?_
        refine aw_iconst (v := 1) dX6_solutionsByRows_49 (by decide) ?_
        refine aw_iadd dX6_solutionsByRows_50 ?_
        refine aw_topi (fun v10 ev10 => ?_)
        have hf := onm_a ev10 hf
        refine aw_istore_n (lv' := [(3, .int v10), (0, .ref (ad 13)), (1, .int x1), (2, .int x2)]) dX6_solutionsByRows_51 rfl (Nat.le_of_ble_eq_true rfl) rfl ?_
        refine aw_sub [1, 2, 3, 0] rfl ?_
        refine A_X6_solutionsByRows_c52 hok hl ?_ n x1 x2 v10 st hf
        · intro y11_1 y11_2 y11_3 u12 hf
          exact A_X6_solutionsByRows_j86 hok hl (fun w1 w2 wst hf => ih w1 w2 wst hf) n y11_1 y11_2 y11_3 u12 hf
def S_X6_solutionsByRows (n : Nat) (st : MSt) : Option (Int32 × MSt) :=
  (S_X6_loads n 50 st).bind fun q1 =>
  (S_X6_allLines q1).bind fun q2 =>
  (S_X6_closes n 50 q2 q1).bind fun q3 =>
  if q3.1 = 0 then
    some (0, q3.2)
  else
    onm (mA q3.2 9 0 ((-1))) fun u5 =>
    S_X6_solutionsByRows_c32 n 0 0 u5
set_option maxHeartbeats 2000000 in
theorem C_X6_solutionsByRows {l : Launch} {G : aG} {ad : Nat → Nat} {h0 : aH} (hok : mOk ad) (hl : l.stackTraces = false) {n : Nat} {st : MSt} {r : Int32 × MSt} (hf : S_X6_solutionsByRows n st = some r) : aC l G mX6_solutionsByRows (ws_ yX6_solutionsByRows cX6_solutionsByRows 4 (some .int)) 5 0 0 [.ref (ad 13)] (mh ad st h0) (aP1 (some (.int r.1)) (mh ad r.2 h0)) := by
  refine aC_of (M := mX6_solutionsByRows) rfl (by decide) (Nat.le_of_ble_eq_true rfl) hl ?_
  rw [S_X6_solutionsByRows] at hf
  refine aw_eqv (lv2 := [(0, .ref (ad 13))]) rfl rfl rfl rfl ?_
  refine aw_aload_n 0 dX6_solutionsByRows_0 rfl rfl ?_
  refine aw_bipush (v := 50) dX6_solutionsByRows_1 (by decide) ?_
  obtain ⟨q1, eq1, hf⟩ := Option.bind_eq_some_iff.mp hf
  refine aw_callV (rest := []) (C_X6_loads hok hl eq1) (mg_o hok) rfl rfl nX6_loads q2009 q2011 qs78 q137 q2012 dX6_solutionsByRows_3 rfl (by decide) (by decide) (Nat.le_of_ble_eq_true rfl) (Nat.le_refl _) (Nat.le_refl _) (aP1_v ?_) aP1_x
  refine aw_aload_n 0 dX6_solutionsByRows_6 rfl rfl ?_
  refine aw_bipush (v := 50) dX6_solutionsByRows_7 (by decide) ?_
  refine aw_aload_n 0 dX6_solutionsByRows_9 rfl rfl ?_
  obtain ⟨q2, eq2, hf⟩ := Option.bind_eq_some_iff.mp hf
  refine aw_callV (rest := [.int 50, .ref (ad 13)]) (C_X6_allLines hok hl eq2) (mg_o hok) rfl rfl nX6_allLines q2110 q2112 qs94 q137 q2113 dX6_solutionsByRows_10 rfl (by decide) (by decide) (Nat.le_of_ble_eq_true rfl) (Nat.le_refl _) (Nat.le_refl _) (aP1_i ?_) aP1_x
  obtain ⟨q3, eq3, hf⟩ := Option.bind_eq_some_iff.mp hf
  refine aw_callV (rest := []) (C_X6_closes hok hl eq3) (mg_o hok) rfl rfl nX6_closes q2122 q2124 qs97 q137 q2125 dX6_solutionsByRows_13 rfl (by decide) (by decide) (Nat.le_of_ble_eq_true rfl) (Nat.le_refl _) (Nat.le_refl _) (aP1_i ?_) aP1_x
  refine aw_if_ne 21 dX6_solutionsByRows_16 (by decide) (fun c4 => ?_) (fun c4 => ?_)
  · have hf := it_f c4 hf
    refine aw_iconst (v := 0) dX6_solutionsByRows_21 (by decide) ?_
    refine aw_istore_n (lv' := [(1, .int 0), (0, .ref (ad 13))]) dX6_solutionsByRows_22 rfl (Nat.le_of_ble_eq_true rfl) rfl ?_
    refine aw_iconst (v := 0) dX6_solutionsByRows_23 (by decide) ?_
    refine aw_istore_n (lv' := [(2, .int 0), (1, .int 0), (0, .ref (ad 13))]) dX6_solutionsByRows_24 rfl (Nat.le_of_ble_eq_true rfl) rfl ?_
    refine aw_aload_n 2 dX6_solutionsByRows_25 rfl rfl ?_
    refine aw_get (v := .ref (ad 9)) (mg_o hok) rfl in_X6 19 (by decide) q1758 (Or.inl rfl) rfl dX6_solutionsByRows_26 ?_
    refine aw_iconst (v := 0) dX6_solutionsByRows_29 (by decide) ?_
    refine aw_iconst (v := (-1)) dX6_solutionsByRows_30 (by decide) ?_
    refine aw_iastj (j := 0) (mg_9 hok) (vpc (by decide)) (by decide) (mu_9 hok) dX6_solutionsByRows_31 ?_
    refine aw_st (fun u5 eu5 => ?_)
    have hf := onm_a eu5 hf
    refine aw_sub [2, 1, 0] rfl ?_
    exact A_X6_solutionsByRows_c32 hok hl n 0 0 u5 hf
  · have hf := it_t c4 hf
    refine aw_iconst (v := 0) dX6_solutionsByRows_19 (by decide) ?_
    cases hf
    exact aw_iret rfl dX6_solutionsByRows_20 aP1_rfl (Nat.le_refl _) (Nat.le_refl _)
abbrev mX6_solutionCountByRows : aM := (yX6_solutionCountByRows, cX6_solutionCountByRows, 1, some .int, [])
theorem nX6_solutionCountByRows : aNoMH yX6_solutionCountByRows 0 := by decide +kernel
def S_X6_solutionCountByRows (n : Nat) (st : MSt) : Option (Int32 × MSt) :=
  (S_X6_solutionsByRows n st).bind fun q1 =>
  (S_X6_told q1.1 q1.2).bind fun q2 =>
  some (q2.1, q2.2)
set_option maxHeartbeats 2000000 in
theorem C_X6_solutionCountByRows {l : Launch} {G : aG} {ad : Nat → Nat} {h0 : aH} (hok : mOk ad) (hl : l.stackTraces = false) {n : Nat} {st : MSt} {r : Int32 × MSt} (hf : S_X6_solutionCountByRows n st = some r) : aC l G mX6_solutionCountByRows (ws_ yX6_solutionCountByRows cX6_solutionCountByRows 1 (some .int)) 6 0 0 [.ref (ad 13)] (mh ad st h0) (aP1 (some (.int r.1)) (mh ad r.2 h0)) := by
  refine aC_of (M := mX6_solutionCountByRows) rfl (by decide) (Nat.le_of_ble_eq_true rfl) hl ?_
  rw [S_X6_solutionCountByRows] at hf
  refine aw_eqv (lv2 := [(0, .ref (ad 13))]) rfl rfl rfl rfl ?_
  refine aw_aload_n 0 dX6_solutionCountByRows_0 rfl rfl ?_
  refine aw_aload_n 0 dX6_solutionCountByRows_1 rfl rfl ?_
  obtain ⟨q1, eq1, hf⟩ := Option.bind_eq_some_iff.mp hf
  refine aw_callV (rest := [.ref (ad 13)]) (C_X6_solutionsByRows hok hl eq1) (mg_o hok) rfl rfl nX6_solutionsByRows q2183 q2185 qs105 q137 q2186 dX6_solutionCountByRows_2 rfl (by decide) (by decide) (Nat.le_of_ble_eq_true rfl) (Nat.le_refl _) (Nat.le_refl _) (aP1_i ?_) aP1_x
  obtain ⟨q2, eq2, hf⟩ := Option.bind_eq_some_iff.mp hf
  refine aw_callV (rest := []) (C_X6_told hok hl eq2) (mg_o hok) rfl rfl nX6_told q1918 q1920 qs69 q137 q1921 dX6_solutionCountByRows_5 rfl (by decide) (by decide) (Nat.le_of_ble_eq_true rfl) (Nat.le_refl _) (Nat.le_refl _) (aP1_i ?_) aP1_x
  cases hf
  exact aw_iret rfl dX6_solutionCountByRows_8 aP1_rfl (Nat.le_refl _) (Nat.le_refl _)
abbrev mX6_firstThing : aM := (yX6_firstThing, cX6_firstThing, 2, some .int, [])
theorem nX6_firstThing : aNoMH yX6_firstThing 1 := by decide +kernel
def S_X6_firstThing (n : Nat) (x1 : Int32) (st : MSt) : Option (Int32 × MSt) :=
  (S_X6_isCell x1 st).bind fun q1 =>
  (S_X6_goes q1 1 1 st).bind fun q2 =>
  if q2.1 = 0 then
    some (0, q2.2)
  else
    (S_X6_solutions n 1 1 q2.2).bind fun q4 =>
    if q4.1 = 0 then
      some ((-1), q4.2)
    else
      ob x1 25 fun j6 =>
      some (q4.2.2.1 10 j6, q4.2)
set_option maxHeartbeats 2000000 in
theorem C_X6_firstThing {l : Launch} {G : aG} {ad : Nat → Nat} {h0 : aH} (hok : mOk ad) (hl : l.stackTraces = false) {n : Nat} {x1 : Int32} {st : MSt} {r : Int32 × MSt} (hf : S_X6_firstThing n x1 st = some r) : aC l G mX6_firstThing (ws_ yX6_firstThing cX6_firstThing 2 (some .int)) 6 0 0 [.ref (ad 13), .int x1] (mh ad st h0) (aP1 (some (.int r.1)) (mh ad r.2 h0)) := by
  refine aC_of (M := mX6_firstThing) rfl (by decide) (Nat.le_of_ble_eq_true rfl) hl ?_
  rw [S_X6_firstThing] at hf
  refine aw_eqv (lv2 := [(0, .ref (ad 13)), (1, .int x1)]) rfl rfl rfl rfl ?_
  refine aw_aload_n 0 dX6_firstThing_0 rfl rfl ?_
  refine aw_aload_n 0 dX6_firstThing_1 rfl rfl ?_
  refine aw_iload_n 1 dX6_firstThing_2 rfl rfl ?_
  obtain ⟨q1, eq1, hf⟩ := Option.bind_eq_some_iff.mp hf
  refine aw_callV (rest := [.ref (ad 13)]) (C_X6_isCell hok hl eq1) (mg_o hok) rfl rfl nX6_isCell q1962 q1964 qs73 q137 q1965 dX6_firstThing_3 rfl (by decide) (by decide) (Nat.le_of_ble_eq_true rfl) (Nat.le_refl _) (Nat.le_refl _) (aP1_i ?_) aP1_x
  refine aw_iconst (v := 1) dX6_firstThing_6 (by decide) ?_
  refine aw_iconst (v := 1) dX6_firstThing_7 (by decide) ?_
  obtain ⟨q2, eq2, hf⟩ := Option.bind_eq_some_iff.mp hf
  refine aw_callV (rest := []) (C_X6_goes hok hl eq2) (mg_o hok) rfl rfl nX6_goes q1825 q1827 qs55 q137 q1828 dX6_firstThing_8 rfl (by decide) (by decide) (Nat.le_of_ble_eq_true rfl) (Nat.le_refl _) (Nat.le_refl _) (aP1_i ?_) aP1_x
  refine aw_if_ne 16 dX6_firstThing_11 (by decide) (fun c3 => ?_) (fun c3 => ?_)
  · have hf := it_f c3 hf
    refine aw_aload_n 0 dX6_firstThing_16 rfl rfl ?_
    refine aw_iconst (v := 1) dX6_firstThing_17 (by decide) ?_
    refine aw_iconst (v := 1) dX6_firstThing_18 (by decide) ?_
    obtain ⟨q4, eq4, hf⟩ := Option.bind_eq_some_iff.mp hf
    refine aw_callV (rest := []) (C_X6_solutions hok hl eq4) (mg_o hok) rfl rfl nX6_solutions q2162 q2164 qs101 q137 q2165 dX6_firstThing_19 rfl (by decide) (by decide) (Nat.le_of_ble_eq_true rfl) (Nat.le_refl _) (Nat.le_refl _) (aP1_i ?_) aP1_x
    refine aw_if_ne 29 dX6_firstThing_22 (by decide) (fun c5 => ?_) (fun c5 => ?_)
    · have hf := it_f c5 hf
      refine aw_aload_n 0 dX6_firstThing_29 rfl rfl ?_
      refine aw_get (v := .ref (ad 10)) (mg_o hok) rfl in_X6 20 (by decide) q1759 (Or.inl rfl) rfl dX6_firstThing_30 ?_
      refine aw_iload_n 1 dX6_firstThing_33 rfl rfl ?_
      obtain ⟨j6, z7, ej6, hf⟩ := ob_s hf
      refine aw_ialdj (mg_10 hok) z7 ej6 dX6_firstThing_34 ?_
      cases hf
      exact aw_iret rfl dX6_firstThing_35 aP1_rfl (Nat.le_refl _) (Nat.le_refl _)
    · have hf := it_t c5 hf
      refine aw_iconst (v := (-1)) dX6_firstThing_25 (by decide) ?_
      refine aw_goto 35 dX6_firstThing_26 (by decide) ?_
      cases hf
      exact aw_iret rfl dX6_firstThing_35 aP1_rfl (Nat.le_refl _) (Nat.le_refl _)
  · have hf := it_t c3 hf
    refine aw_iconst (v := 0) dX6_firstThing_14 (by decide) ?_
    cases hf
    exact aw_iret rfl dX6_firstThing_15 aP1_rfl (Nat.le_refl _) (Nat.le_refl _)
abbrev mX6_sameInAll : aM := (yX6_sameInAll, cX6_sameInAll, 2, some .long, [])
theorem nX6_sameInAll : aNoMH yX6_sameInAll 0 := by decide +kernel
def S_X6_sameInAll (n : Nat) (st : MSt) : Option (Int64 × MSt) :=
  onm (mI st 2 0) fun u1 =>
  (S_X6_solutions n 200 0 u1).bind fun q2 =>
  (S_X6_in q2.1 1 199).bind fun q3 =>
  if q3 = 0 then
    some (0, q2.2)
  else
    some (q2.2.2.2, q2.2)
set_option maxHeartbeats 2000000 in
theorem C_X6_sameInAll {l : Launch} {G : aG} {ad : Nat → Nat} {h0 : aH} (hok : mOk ad) (hl : l.stackTraces = false) {n : Nat} {st : MSt} {r : Int64 × MSt} (hf : S_X6_sameInAll n st = some r) : aC l G mX6_sameInAll (ws_ yX6_sameInAll cX6_sameInAll 2 (some .long)) 6 0 0 [.ref (ad 13)] (mh ad st h0) (aP1 (some (.long r.1)) (mh ad r.2 h0)) := by
  refine aC_of (M := mX6_sameInAll) rfl (by decide) (Nat.le_of_ble_eq_true rfl) hl ?_
  rw [S_X6_sameInAll] at hf
  refine aw_eqv (lv2 := [(0, .ref (ad 13))]) rfl rfl rfl rfl ?_
  refine aw_aload_n 0 dX6_sameInAll_0 rfl rfl ?_
  refine aw_iconst (v := 0) dX6_sameInAll_1 (by decide) ?_
  refine aw_put (mg_o hok) rfl in_X6 tyX6_ok nmX6 5 (by decide) q1744 (Or.inl rfl) rfl rfl rfl (Nat.le_of_ble_eq_true rfl) (mu_i2 hok) dX6_sameInAll_2 ?_
  refine aw_st (fun u1 eu1 => ?_)
  have hf := onm_a eu1 hf
  refine aw_aload_n 0 dX6_sameInAll_5 rfl rfl ?_
  refine aw_sipush (v := 200) dX6_sameInAll_6 (by decide) ?_
  refine aw_iconst (v := 0) dX6_sameInAll_9 (by decide) ?_
  obtain ⟨q2, eq2, hf⟩ := Option.bind_eq_some_iff.mp hf
  refine aw_callV (rest := []) (C_X6_solutions hok hl eq2) (mg_o hok) rfl rfl nX6_solutions q2162 q2164 qs101 q137 q2165 dX6_sameInAll_10 rfl (by decide) (by decide) (Nat.le_of_ble_eq_true rfl) (Nat.le_refl _) (Nat.le_refl _) (aP1_i ?_) aP1_x
  refine aw_istore_n (lv' := [(1, .int q2.1), (0, .ref (ad 13))]) dX6_sameInAll_13 rfl (Nat.le_of_ble_eq_true rfl) rfl ?_
  refine aw_iload_n 0 dX6_sameInAll_14 rfl rfl ?_
  refine aw_iconst (v := 1) dX6_sameInAll_15 (by decide) ?_
  refine aw_sipush (v := 199) dX6_sameInAll_16 (by decide) ?_
  obtain ⟨q3, eq3, hf⟩ := Option.bind_eq_some_iff.mp hf
  refine aw_callS (rest := []) (C_X6_in hl eq3) nX6_in q1822 q1823 q137 q1824 dX6_sameInAll_19 rfl (by decide) (by decide) (Nat.le_of_ble_eq_true rfl) (Nat.le_refl _) (Nat.le_refl _) (aP1_i ?_) aP1_x
  refine aw_if_eq 32 dX6_sameInAll_22 (by decide) (fun c4 => ?_) (fun c4 => ?_)
  · have hf := it_t c4 hf
    refine aw_lconst (v := 0) dX6_sameInAll_32 (by decide) ?_
    cases hf
    exact aw_lret rfl dX6_sameInAll_33 aP1_rfl (Nat.le_refl _) (Nat.le_refl _)
  · have hf := it_f c4 hf
    refine aw_aload_n 1 dX6_sameInAll_25 rfl rfl ?_
    refine aw_get (v := .long q2.2.2.2) (mg_o hok) rfl in_X6 21 (by decide) q1760 (Or.inl rfl) rfl dX6_sameInAll_26 ?_
    refine aw_goto 33 dX6_sameInAll_29 (by decide) ?_
    cases hf
    exact aw_lret rfl dX6_sameInAll_33 aP1_rfl (Nat.le_refl _) (Nat.le_refl _)
abbrev mX6_isNeeded : aM := (yX6_isNeeded, cX6_isNeeded, 6, some .boolean, [])
theorem nX6_isNeeded : aNoMH yX6_isNeeded 1 := by decide +kernel
def S_X6_isNeeded_j28 (n : Nat) (x1 : Int32) (xs0 : Int32) (xs1 : Int32) (st : MSt) : Option (Int32 × MSt) :=
  (S_X6_goes xs1 xs0 1 st).bind fun q3 =>
  if q3.1 = 0 then
    some (0, q3.2)
  else
    (S_X6_solutions n 200 0 q3.2).bind fun q5 =>
    ob ((3 : Int32) + x1) 432 fun j6 =>
    onm (q5.2.2.1 0 j6) fun v8 =>
    ob ((3 : Int32) + x1) 432 fun j9 =>
    onm (mA q5.2 0 j9 0) fun u11 =>
    (S_X6_solutions n 200 0 u11).bind fun q12 =>
    ob ((3 : Int32) + x1) 432 fun j13 =>
    onm (mA q12.2 0 j13 v8) fun u15 =>
    if q12.1 ≤ q5.1 then
      some (0, u15)
    else
      some (1, u15)
set_option maxHeartbeats 2000000 in
theorem A_X6_isNeeded_j28 {l : Launch} {G : aG} {ad : Nat → Nat} {h0 : aH} (hok : mOk ad) (hl : l.stackTraces = false) {r : Int32 × MSt} : ∀ (n : Nat) (x1 : Int32) (xs0 : Int32) (xs1 : Int32) (st : MSt), S_X6_isNeeded_j28 n x1 xs0 xs1 st = some r → AW l G mX6_isNeeded 6 0 0 (aP1 (some (.int r.1)) (mh ad r.2 h0)) 28 [(0, .ref (ad 13)), (1, .int x1)] [.int xs0, .int xs1, .ref (ad 13)] (mh ad st h0) 0 0 := by
  intro n x1 xs0 xs1 st hf
  rw [S_X6_isNeeded_j28] at hf
  refine aw_iconst (v := 1) dX6_isNeeded_28 (by decide) ?_
  obtain ⟨q3, eq3, hf⟩ := Option.bind_eq_some_iff.mp hf
  refine aw_callV (rest := []) (C_X6_goes hok hl eq3) (mg_o hok) rfl rfl nX6_goes q1825 q1827 qs55 q137 q1828 dX6_isNeeded_29 rfl (by decide) (by decide) (Nat.le_of_ble_eq_true rfl) (Nat.le_refl _) (Nat.le_refl _) (aP1_i ?_) aP1_x
  refine aw_if_ne 37 dX6_isNeeded_32 (by decide) (fun c4 => ?_) (fun c4 => ?_)
  · have hf := it_f c4 hf
    refine aw_aload_n 0 dX6_isNeeded_37 rfl rfl ?_
    refine aw_sipush (v := 200) dX6_isNeeded_38 (by decide) ?_
    refine aw_iconst (v := 0) dX6_isNeeded_41 (by decide) ?_
    obtain ⟨q5, eq5, hf⟩ := Option.bind_eq_some_iff.mp hf
    refine aw_callV (rest := []) (C_X6_solutions hok hl eq5) (mg_o hok) rfl rfl nX6_solutions q2162 q2164 qs101 q137 q2165 dX6_isNeeded_42 rfl (by decide) (by decide) (Nat.le_of_ble_eq_true rfl) (Nat.le_refl _) (Nat.le_refl _) (aP1_i ?_) aP1_x
    refine aw_istore_n (lv' := [(3, .int q5.1), (0, .ref (ad 13)), (1, .int x1)]) dX6_isNeeded_45 rfl (Nat.le_of_ble_eq_true rfl) rfl ?_
    refine aw_aload_n 1 dX6_isNeeded_46 rfl rfl ?_
    refine aw_get (v := .ref (ad 0)) (mg_o hok) rfl in_X6 0 (by decide) q1739 (Or.inl rfl) rfl dX6_isNeeded_47 ?_
    refine aw_iconst (v := 3) dX6_isNeeded_50 (by decide) ?_
    refine aw_iload_n 2 dX6_isNeeded_51 rfl rfl ?_
    refine aw_iadd dX6_isNeeded_52 ?_
    obtain ⟨j6, z7, ej6, hf⟩ := ob_s hf
    refine aw_ialdj (mg_0 hok) z7 ej6 dX6_isNeeded_53 ?_
    refine aw_topi (fun v8 ev8 => ?_)
    have hf := onm_a ev8 hf
    refine aw_istore (lv' := [(4, .int v8), (3, .int q5.1), (0, .ref (ad 13)), (1, .int x1)]) dX6_isNeeded_54 (Nat.le_of_ble_eq_true rfl) rfl ?_
    refine aw_aload_n 2 dX6_isNeeded_56 rfl rfl ?_
    refine aw_get (v := .ref (ad 0)) (mg_o hok) rfl in_X6 0 (by decide) q1739 (Or.inl rfl) rfl dX6_isNeeded_57 ?_
    refine aw_iconst (v := 3) dX6_isNeeded_60 (by decide) ?_
    refine aw_iload_n 3 dX6_isNeeded_61 rfl rfl ?_
    refine aw_iadd dX6_isNeeded_62 ?_
    refine aw_iconst (v := 0) dX6_isNeeded_63 (by decide) ?_
    obtain ⟨j9, z10, ej9, hf⟩ := ob_s hf
    refine aw_iastj (mg_0 hok) z10 ej9 (mu_0 hok) dX6_isNeeded_64 ?_
    refine aw_st (fun u11 eu11 => ?_)
    have hf := onm_a eu11 hf
    refine aw_aload_n 2 dX6_isNeeded_65 rfl rfl ?_
    refine aw_sipush (v := 200) dX6_isNeeded_66 (by decide) ?_
    refine aw_iconst (v := 0) dX6_isNeeded_69 (by decide) ?_
    obtain ⟨q12, eq12, hf⟩ := Option.bind_eq_some_iff.mp hf
    refine aw_callV (rest := []) (C_X6_solutions hok hl eq12) (mg_o hok) rfl rfl nX6_solutions q2162 q2164 qs101 q137 q2165 dX6_isNeeded_70 rfl (by decide) (by decide) (Nat.le_of_ble_eq_true rfl) (Nat.le_refl _) (Nat.le_refl _) (aP1_i ?_) aP1_x
    refine aw_istore (lv' := [(5, .int q12.1), (4, .int v8), (3, .int q5.1), (0, .ref (ad 13)), (1, .int x1)]) dX6_isNeeded_73 (Nat.le_of_ble_eq_true rfl) rfl ?_
    refine aw_aload_n 3 dX6_isNeeded_75 rfl rfl ?_
    refine aw_get (v := .ref (ad 0)) (mg_o hok) rfl in_X6 0 (by decide) q1739 (Or.inl rfl) rfl dX6_isNeeded_76 ?_
    refine aw_iconst (v := 3) dX6_isNeeded_79 (by decide) ?_
    refine aw_iload_n 4 dX6_isNeeded_80 rfl rfl ?_
    refine aw_iadd dX6_isNeeded_81 ?_
    refine aw_iload 1 dX6_isNeeded_82 rfl ?_
    obtain ⟨j13, z14, ej13, hf⟩ := ob_s hf
    refine aw_iastj (mg_0 hok) z14 ej13 (mu_0 hok) dX6_isNeeded_84 ?_
    refine aw_st (fun u15 eu15 => ?_)
    have hf := onm_a eu15 hf
    refine aw_iload 0 dX6_isNeeded_85 rfl ?_
    refine aw_iload_n 2 dX6_isNeeded_87 rfl rfl ?_
    refine aw_icmp_le 95 dX6_isNeeded_88 (by decide) (fun c16 => ?_) (fun c16 => ?_)
    · have hf := it_t c16 hf
      refine aw_iconst (v := 0) dX6_isNeeded_95 (by decide) ?_
      cases hf
      exact aw_zret rfl rfl dX6_isNeeded_96 aP1_rfl (Nat.le_refl _) (Nat.le_refl _)
    · have hf := it_f c16 hf
      refine aw_iconst (v := 1) dX6_isNeeded_91 (by decide) ?_
      refine aw_goto 96 dX6_isNeeded_92 (by decide) ?_
      cases hf
      exact aw_zret rfl rfl dX6_isNeeded_96 aP1_rfl (Nat.le_refl _) (Nat.le_refl _)
  · have hf := it_t c4 hf
    refine aw_iconst (v := 0) dX6_isNeeded_35 (by decide) ?_
    cases hf
    exact aw_zret rfl rfl dX6_isNeeded_36 aP1_rfl (Nat.le_refl _) (Nat.le_refl _)
def S_X6_isNeeded (n : Nat) (x1 : Int32) (st : MSt) : Option (Int32 × MSt) :=
  (S_X6_isEdge x1 st).bind fun q1 =>
  if q1 = 0 then
    S_X6_isNeeded_j28 n x1 0 q1 st
  else
    ob ((3 : Int32) + x1) 432 fun j17 =>
    if (st.2.1 0 j17) ≤ 0 then
      S_X6_isNeeded_j28 n x1 0 q1 st
    else
      S_X6_isNeeded_j28 n x1 1 q1 st
set_option maxHeartbeats 2000000 in
theorem C_X6_isNeeded {l : Launch} {G : aG} {ad : Nat → Nat} {h0 : aH} (hok : mOk ad) (hl : l.stackTraces = false) {n : Nat} {x1 : Int32} {st : MSt} {r : Int32 × MSt} (hf : S_X6_isNeeded n x1 st = some r) : aC l G mX6_isNeeded (ws_ yX6_isNeeded cX6_isNeeded 6 (some .boolean)) 6 0 0 [.ref (ad 13), .int x1] (mh ad st h0) (aP1 (some (.int r.1)) (mh ad r.2 h0)) := by
  refine aC_of (M := mX6_isNeeded) rfl (by decide) (Nat.le_of_ble_eq_true rfl) hl ?_
  rw [S_X6_isNeeded] at hf
  refine aw_eqv (lv2 := [(0, .ref (ad 13)), (1, .int x1)]) rfl rfl rfl rfl ?_
  refine aw_aload_n 0 dX6_isNeeded_0 rfl rfl ?_
  refine aw_iload_n 1 dX6_isNeeded_1 rfl rfl ?_
  obtain ⟨q1, eq1, hf⟩ := Option.bind_eq_some_iff.mp hf
  refine aw_callV (rest := []) (C_X6_isEdge hok hl eq1) (mg_o hok) rfl rfl nX6_isEdge q1845 q1847 qs58 q137 q1848 dX6_isNeeded_2 rfl (by decide) (by decide) (Nat.le_of_ble_eq_true rfl) (Nat.le_refl _) (Nat.le_refl _) (aP1_i ?_) aP1_x
  refine aw_istore_n (lv' := [(2, .int q1), (0, .ref (ad 13)), (1, .int x1)]) dX6_isNeeded_5 rfl (Nat.le_of_ble_eq_true rfl) rfl ?_
  refine aw_aload_n 1 dX6_isNeeded_6 rfl rfl ?_
  refine aw_iload_n 0 dX6_isNeeded_7 rfl rfl ?_
  refine aw_iload_n 0 dX6_isNeeded_8 rfl rfl ?_
  refine aw_if_eq 27 dX6_isNeeded_9 (by decide) (fun c2 => ?_) (fun c2 => ?_)
  · have hf := it_t c2 hf
    refine aw_iconst (v := 0) dX6_isNeeded_27 (by decide) ?_
    refine aw_sub [1, 2] rfl ?_
    exact A_X6_isNeeded_j28 hok hl n x1 0 q1 st hf
  · have hf := it_f c2 hf
    refine aw_aload_n 1 dX6_isNeeded_12 rfl rfl ?_
    refine aw_get (v := .ref (ad 0)) (mg_o hok) rfl in_X6 0 (by decide) q1739 (Or.inl rfl) rfl dX6_isNeeded_13 ?_
    refine aw_iconst (v := 3) dX6_isNeeded_16 (by decide) ?_
    refine aw_iload_n 2 dX6_isNeeded_17 rfl rfl ?_
    refine aw_iadd dX6_isNeeded_18 ?_
    obtain ⟨j17, z18, ej17, hf⟩ := ob_s hf
    refine aw_ialdj (mg_0 hok) z18 ej17 dX6_isNeeded_19 ?_
    refine aw_if_le 27 dX6_isNeeded_20 (by decide) (fun c19 => ?_) (fun c19 => ?_)
    · have hf := it_t c19 hf
      refine aw_iconst (v := 0) dX6_isNeeded_27 (by decide) ?_
      refine aw_sub [1, 2] rfl ?_
      exact A_X6_isNeeded_j28 hok hl n x1 0 q1 st hf
    · have hf := it_f c19 hf
      refine aw_iconst (v := 1) dX6_isNeeded_23 (by decide) ?_
      refine aw_goto 28 dX6_isNeeded_24 (by decide) ?_
      refine aw_sub [1, 2] rfl ?_
      exact A_X6_isNeeded_j28 hok hl n x1 1 q1 st hf
abbrev mX6_crossedShare : aM := (yX6_crossedShare, cX6_crossedShare, 4, some .double, [])
theorem nX6_crossedShare : aNoMH yX6_crossedShare 0 := by decide +kernel
def S_X6_crossedShare_c23 : Nat → Int32 → Int32 → Int32 → MSt → Option (UInt64 × MSt)
  | 0, _, _, _, _ => none
  | n + 1, x1, x2, x3, st =>
    (S_X6_cells st).bind fun q4 =>
    if q4 ≤ x3 then
      odn (FP.ddiv (FP.i2d (x1 - x2)) (FP.i2d x1)) <|
      some (FP.ddiv (FP.i2d (x1 - x2)) (FP.i2d x1), st)
    else
      ob ((23 : Int32) + x3) 432 fun j7 =>
      (S_X6_many n (st.2.1 0 j7)).bind fun q9 =>
      onm (x2 + q9) fun v10 =>
      S_X6_crossedShare_c23 n x1 v10 (x3 + 1) st
set_option maxHeartbeats 2000000 in
theorem A_X6_crossedShare_c23 {l : Launch} {G : aG} {ad : Nat → Nat} {h0 : aH} (hok : mOk ad) (hl : l.stackTraces = false) {r : UInt64 × MSt} : ∀ (n : Nat) (x1 : Int32) (x2 : Int32) (x3 : Int32) (st : MSt), S_X6_crossedShare_c23 n x1 x2 x3 st = some r → AW l G mX6_crossedShare 1 0 0 (aP1 (some (.double r.1)) (mh ad r.2 h0)) 23 [(0, .ref (ad 13)), (1, .int x1), (2, .int x2), (3, .int x3)] [] (mh ad st h0) 0 0 := by
  intro n
  induction n with
  | zero =>
    intro x1 x2 x3 st hf
    rw [S_X6_crossedShare_c23] at hf
    cases hf
  | succ n ih =>
    intro x1 x2 x3 st hf
    rw [S_X6_crossedShare_c23] at hf
    refine aw_iload_n 3 dX6_crossedShare_23 rfl rfl ?_
    refine aw_aload_n 0 dX6_crossedShare_24 rfl rfl ?_
    obtain ⟨q4, eq4, hf⟩ := Option.bind_eq_some_iff.mp hf
    refine aw_callV (rest := [.int x3]) (C_X6_cells hok hl eq4) (mg_o hok) rfl rfl nX6_cells q1735 q1737 qs54 q137 q1738 dX6_crossedShare_25 rfl (by decide) (by decide) (Nat.le_of_ble_eq_true rfl) (Nat.le_refl _) (Nat.le_refl _) (aP1_i ?_) aP1_x
    refine aw_icmp_ge 52 dX6_crossedShare_28 (by decide) (fun c5 => ?_) (fun c5 => ?_)
    · have hf := it_t c5 hf
      refine aw_iload_n 1 dX6_crossedShare_52 rfl rfl ?_
      refine aw_iload_n 2 dX6_crossedShare_53 rfl rfl ?_
      refine aw_isub dX6_crossedShare_54 ?_
      refine aw_i2d dX6_crossedShare_55 ?_
      refine aw_iload_n 1 dX6_crossedShare_56 rfl rfl ?_
      refine aw_i2d dX6_crossedShare_57 ?_
      obtain ⟨z6, hf⟩ := odn_s hf
      refine aw_ddiv dX6_crossedShare_58 z6 ?_
      cases hf
      exact aw_dret rfl dX6_crossedShare_59 aP1_rfl (Nat.le_refl _) (Nat.le_refl _)
    · have hf := it_f c5 hf
      refine aw_iload_n 2 dX6_crossedShare_31 rfl rfl ?_
      refine aw_aload_n 0 dX6_crossedShare_32 rfl rfl ?_
      refine aw_get (v := .ref (ad 0)) (mg_o hok) rfl in_X6 0 (by decide) q1739 (Or.inl rfl) rfl dX6_crossedShare_33 ?_
      refine aw_bipush (v := 23) dX6_crossedShare_36 (by decide) ?_
      refine aw_iload_n 3 dX6_crossedShare_38 rfl rfl ?_
      refine aw_iadd dX6_crossedShare_39 ?_
      obtain ⟨j7, z8, ej7, hf⟩ := ob_s hf
      refine aw_ialdj (mg_0 hok) z8 ej7 dX6_crossedShare_40 ?_
      obtain ⟨q9, eq9, hf⟩ := Option.bind_eq_some_iff.mp hf
      refine aw_callS (rest := [.int x2]) (C_X6_many hl eq9) nX6_many q1998 q1999 q137 q2000 dX6_crossedShare_41 rfl (by decide) (by decide) (Nat.le_of_ble_eq_true rfl) (Nat.le_refl _) (Nat.le_refl _) (aP1_i ?_) aP1_x
      refine aw_iadd dX6_crossedShare_44 ?_
      refine aw_topi (fun v10 ev10 => ?_)
      have hf := onm_a ev10 hf
      refine aw_istore_n (lv' := [(2, .int v10), (0, .ref (ad 13)), (1, .int x1), (3, .int x3)]) dX6_crossedShare_45 rfl (Nat.le_of_ble_eq_true rfl) rfl ?_
      refine aw_iinc 3 (v := x3 + 1) (lv' := [(3, .int (x3 + 1)), (2, .int v10), (0, .ref (ad 13)), (1, .int x1)]) dX6_crossedShare_46 rfl rfl (Nat.le_of_ble_eq_true rfl) rfl ?_
      refine aw_goto 23 dX6_crossedShare_49 (by decide) ?_
      refine aw_sub [2, 3, 1, 0] rfl ?_
      exact ih x1 v10 (x3 + 1) st hf
def S_X6_crossedShare (n : Nat) (st : MSt) : Option (UInt64 × MSt) :=
  onm (mI st 2 0) fun u1 =>
  (S_X6_cells u1).bind fun q2 =>
  onm (q2 * ((u1.2.1 0 1) + (1 : Int32))) fun v3 =>
  S_X6_crossedShare_c23 n v3 0 0 u1
set_option maxHeartbeats 2000000 in
theorem C_X6_crossedShare {l : Launch} {G : aG} {ad : Nat → Nat} {h0 : aH} (hok : mOk ad) (hl : l.stackTraces = false) {n : Nat} {st : MSt} {r : UInt64 × MSt} (hf : S_X6_crossedShare n st = some r) : aC l G mX6_crossedShare (ws_ yX6_crossedShare cX6_crossedShare 4 (some .double)) 1 0 0 [.ref (ad 13)] (mh ad st h0) (aP1 (some (.double r.1)) (mh ad r.2 h0)) := by
  refine aC_of (M := mX6_crossedShare) rfl (by decide) (Nat.le_of_ble_eq_true rfl) hl ?_
  rw [S_X6_crossedShare] at hf
  refine aw_eqv (lv2 := [(0, .ref (ad 13))]) rfl rfl rfl rfl ?_
  refine aw_aload_n 0 dX6_crossedShare_0 rfl rfl ?_
  refine aw_iconst (v := 0) dX6_crossedShare_1 (by decide) ?_
  refine aw_put (mg_o hok) rfl in_X6 tyX6_ok nmX6 5 (by decide) q1744 (Or.inl rfl) rfl rfl rfl (Nat.le_of_ble_eq_true rfl) (mu_i2 hok) dX6_crossedShare_2 ?_
  refine aw_st (fun u1 eu1 => ?_)
  have hf := onm_a eu1 hf
  refine aw_aload_n 0 dX6_crossedShare_5 rfl rfl ?_
  obtain ⟨q2, eq2, hf⟩ := Option.bind_eq_some_iff.mp hf
  refine aw_callV (rest := []) (C_X6_cells hok hl eq2) (mg_o hok) rfl rfl nX6_cells q1735 q1737 qs54 q137 q1738 dX6_crossedShare_6 rfl (by decide) (by decide) (Nat.le_of_ble_eq_true rfl) (Nat.le_refl _) (Nat.le_refl _) (aP1_i ?_) aP1_x
  refine aw_aload_n 0 dX6_crossedShare_9 rfl rfl ?_
  refine aw_get (v := .ref (ad 0)) (mg_o hok) rfl in_X6 0 (by decide) q1739 (Or.inl rfl) rfl dX6_crossedShare_10 ?_
  refine aw_iconst (v := 1) dX6_crossedShare_13 (by decide) ?_
  refine aw_ialdj (j := 1) (mg_0 hok) (vpc (by decide)) (by decide) dX6_crossedShare_14 ?_
  refine aw_iconst (v := 1) dX6_crossedShare_15 (by decide) ?_
  refine aw_iadd dX6_crossedShare_16 ?_
  refine aw_imul dX6_crossedShare_17 ?_
  refine aw_topi (fun v3 ev3 => ?_)
  have hf := onm_a ev3 hf
  refine aw_istore_n (lv' := [(1, .int v3), (0, .ref (ad 13))]) dX6_crossedShare_18 rfl (Nat.le_of_ble_eq_true rfl) rfl ?_
  refine aw_iconst (v := 0) dX6_crossedShare_19 (by decide) ?_
  refine aw_istore_n (lv' := [(2, .int 0), (1, .int v3), (0, .ref (ad 13))]) dX6_crossedShare_20 rfl (Nat.le_of_ble_eq_true rfl) rfl ?_
  refine aw_iconst (v := 0) dX6_crossedShare_21 (by decide) ?_
  refine aw_istore_n (lv' := [(3, .int 0), (2, .int 0), (1, .int v3), (0, .ref (ad 13))]) dX6_crossedShare_22 rfl (Nat.le_of_ble_eq_true rfl) rfl ?_
  refine aw_sub [3, 2, 1, 0] rfl ?_
  exact A_X6_crossedShare_c23 hok hl n v3 0 0 u1 hf
abbrev mX6_characters : aM := (yX6_characters, cX6_characters, 6, some .int, [])
theorem nX6_characters : aNoMH yX6_characters 1 := by decide +kernel
def S_X6_characters_c7 : Nat → Int64 → Int32 → Int32 → Int32 → Option (Int32)
  | 0, _, _, _, _ => none
  | n + 1, x0, x2, x3, x4 =>
    if 8 ≤ x4 then
      some x2
    else
      onm ((((x0.toUInt64 >>> (((8 : Int32) * x4).toInt64.toUInt64 &&& Int64.toUInt64 63)).toInt64) &&& (255 : Int64)).toInt32) fun v2 =>
      if v2 = 0 then
        S_X6_characters_c7 n x0 x2 1 (x4 + 1)
      else
        if x3 = 0 then
          (S_X6_in v2 33 126).bind fun q5 =>
          if q5 = 0 then
            some 0
          else
            S_X6_characters_c7 n x0 (x2 + 1) x3 (x4 + 1)
        else
          some 0
set_option maxHeartbeats 2000000 in
theorem A_X6_characters_c7 {l : Launch} {G : aG} {h : aH} (hl : l.stackTraces = false) {r : Int32} : ∀ (n : Nat) (x0 : Int64) (x2 : Int32) (x3 : Int32) (x4 : Int32), S_X6_characters_c7 n x0 x2 x3 x4 = some r → AW l G mX6_characters 1 0 0 (aP1 (some (.int r)) h) 7 [(0, .long x0), (2, .int x2), (3, .int x3), (4, .int x4)] [] h 0 0 := by
  intro n
  induction n with
  | zero =>
    intro x0 x2 x3 x4 hf
    rw [S_X6_characters_c7] at hf
    cases hf
  | succ n ih =>
    intro x0 x2 x3 x4 hf
    rw [S_X6_characters_c7] at hf
    refine aw_iload 3 dX6_characters_7 rfl ?_
    refine aw_bipush (v := 8) dX6_characters_9 (by decide) ?_
    refine aw_icmp_ge 65 dX6_characters_11 (by decide) (fun c1 => ?_) (fun c1 => ?_)
    · have hf := it_t c1 hf
      refine aw_iload_n 1 dX6_characters_65 rfl rfl ?_
      cases hf
      exact aw_iret rfl dX6_characters_66 aP1_rfl (Nat.le_refl _) (Nat.le_refl _)
    · have hf := it_f c1 hf
      refine aw_lload_n 0 dX6_characters_14 rfl rfl ?_
      refine aw_bipush (v := 8) dX6_characters_15 (by decide) ?_
      refine aw_iload 3 dX6_characters_17 rfl ?_
      refine aw_imul dX6_characters_19 ?_
      refine aw_lushr dX6_characters_20 ?_
      refine aw_ldc2 (v := 255) q2218 dX6_characters_21 ?_
      refine aw_land dX6_characters_24 ?_
      refine aw_l2i dX6_characters_25 ?_
      refine aw_topi (fun v2 ev2 => ?_)
      have hf := onm_a ev2 hf
      refine aw_istore (lv' := [(5, .int v2), (0, .long x0), (2, .int x2), (3, .int x3), (4, .int x4)]) dX6_characters_26 (Nat.le_of_ble_eq_true rfl) rfl ?_
      refine aw_iload 0 dX6_characters_28 rfl ?_
      refine aw_if_ne 38 dX6_characters_30 (by decide) (fun c3 => ?_) (fun c3 => ?_)
      · have hf := it_f c3 hf
        refine aw_iload_n 3 dX6_characters_38 rfl rfl ?_
        refine aw_if_ne 54 dX6_characters_39 (by decide) (fun c4 => ?_) (fun c4 => ?_)
        · have hf := it_f c4 hf
          refine aw_iconst (v := 0) dX6_characters_54 (by decide) ?_
          cases hf
          exact aw_iret rfl dX6_characters_55 aP1_rfl (Nat.le_refl _) (Nat.le_refl _)
        · have hf := it_t c4 hf
          refine aw_iload 0 dX6_characters_42 rfl ?_
          refine aw_bipush (v := 33) dX6_characters_44 (by decide) ?_
          refine aw_bipush (v := 126) dX6_characters_46 (by decide) ?_
          obtain ⟨q5, eq5, hf⟩ := Option.bind_eq_some_iff.mp hf
          refine aw_callS (rest := []) (C_X6_in hl eq5) nX6_in q1822 q1823 q137 q1824 dX6_characters_48 rfl (by decide) (by decide) (Nat.le_of_ble_eq_true rfl) (Nat.le_refl _) (Nat.le_refl _) (aP1_i ?_) aP1_x
          refine aw_if_ne 56 dX6_characters_51 (by decide) (fun c6 => ?_) (fun c6 => ?_)
          · have hf := it_f c6 hf
            refine aw_iinc 2 (v := x2 + 1) (lv' := [(2, .int (x2 + 1)), (5, .int v2), (0, .long x0), (3, .int x3), (4, .int x4)]) dX6_characters_56 rfl rfl (Nat.le_of_ble_eq_true rfl) rfl ?_
            refine aw_iinc 4 (v := x4 + 1) (lv' := [(4, .int (x4 + 1)), (2, .int (x2 + 1)), (5, .int v2), (0, .long x0), (3, .int x3)]) dX6_characters_59 rfl rfl (Nat.le_of_ble_eq_true rfl) rfl ?_
            refine aw_goto 7 dX6_characters_62 (by decide) ?_
            refine aw_sub [3, 1, 4, 0] rfl ?_
            exact ih x0 (x2 + 1) x3 (x4 + 1) hf
          · have hf := it_t c6 hf
            refine aw_iconst (v := 0) dX6_characters_54 (by decide) ?_
            cases hf
            exact aw_iret rfl dX6_characters_55 aP1_rfl (Nat.le_refl _) (Nat.le_refl _)
      · have hf := it_t c3 hf
        refine aw_iconst (v := 1) dX6_characters_33 (by decide) ?_
        refine aw_istore_n (lv' := [(3, .int 1), (5, .int v2), (0, .long x0), (2, .int x2), (4, .int x4)]) dX6_characters_34 rfl (Nat.le_of_ble_eq_true rfl) rfl ?_
        refine aw_goto 59 dX6_characters_35 (by decide) ?_
        refine aw_iinc 4 (v := x4 + 1) (lv' := [(4, .int (x4 + 1)), (3, .int 1), (5, .int v2), (0, .long x0), (2, .int x2)]) dX6_characters_59 rfl rfl (Nat.le_of_ble_eq_true rfl) rfl ?_
        refine aw_goto 7 dX6_characters_62 (by decide) ?_
        refine aw_sub [3, 4, 1, 0] rfl ?_
        exact ih x0 x2 1 (x4 + 1) hf
def S_X6_characters (n : Nat) (x0 : Int64) : Option (Int32) :=
  S_X6_characters_c7 n x0 0 0 0
set_option maxHeartbeats 2000000 in
theorem C_X6_characters {l : Launch} {G : aG} {h : aH} (hl : l.stackTraces = false) {n : Nat} {x0 : Int64} {r : Int32} (hf : S_X6_characters n x0 = some r) : aC l G mX6_characters (ws_ yX6_characters cX6_characters 6 (some .int)) 1 0 0 [.long x0] h (aP1 (some (.int r)) h) := by
  refine aC_of (M := mX6_characters) rfl (by decide) (Nat.le_of_ble_eq_true rfl) hl ?_
  rw [S_X6_characters] at hf
  refine aw_eqv (lv2 := [(0, .long x0)]) rfl rfl rfl rfl ?_
  refine aw_iconst (v := 0) dX6_characters_0 (by decide) ?_
  refine aw_istore_n (lv' := [(2, .int 0), (0, .long x0)]) dX6_characters_1 rfl (Nat.le_of_ble_eq_true rfl) rfl ?_
  refine aw_iconst (v := 0) dX6_characters_2 (by decide) ?_
  refine aw_istore_n (lv' := [(3, .int 0), (2, .int 0), (0, .long x0)]) dX6_characters_3 rfl (Nat.le_of_ble_eq_true rfl) rfl ?_
  refine aw_iconst (v := 0) dX6_characters_4 (by decide) ?_
  refine aw_istore (lv' := [(4, .int 0), (3, .int 0), (2, .int 0), (0, .long x0)]) dX6_characters_5 (Nat.le_of_ble_eq_true rfl) rfl ?_
  refine aw_sub [3, 2, 1, 0] rfl ?_
  exact A_X6_characters_c7 hl n x0 0 0 0 hf
abbrev mX6_appendText : aM := (yX6_appendText, cX6_appendText, 5, some .int, [])
theorem nX6_appendText : aNoMH yX6_appendText 1 := by decide +kernel
def S_X6_appendText_c45 : Nat → Int64 → Int32 → MSt → Option (Int32 × MSt)
  | 0, _, _, _ => none
  | n + 1, x1, x4, st =>
    if x4 < 0 then
      some (st.1 1, st)
    else
      ob (st.1 1) 80 fun j8 =>
      onm (mA st 2 j8 (vp_nar .char ((((((x1.toUInt64 >>> (((8 : Int32) * x4).toInt64.toUInt64 &&& Int64.toUInt64 63)).toInt64) &&& (255 : Int64)).toInt32).toUInt32 % 65536).toInt32))) fun u10 =>
      onm (mI u10 1 ((u10.1 1) + (1 : Int32))) fun u11 =>
      S_X6_appendText_c45 n x1 (x4 + (-1)) u11
set_option maxHeartbeats 2000000 in
theorem A_X6_appendText_c45 {l : Launch} {G : aG} {ad : Nat → Nat} {h0 : aH} (hok : mOk ad) (hl : l.stackTraces = false) {r : Int32 × MSt} : ∀ (n : Nat) (x1 : Int64) (x4 : Int32) (st : MSt), S_X6_appendText_c45 n x1 x4 st = some r → AW l G mX6_appendText 2 0 0 (aP1 (some (.int r.1)) (mh ad r.2 h0)) 45 [(0, .ref (ad 13)), (1, .long x1), (4, .int x4)] [] (mh ad st h0) 0 0 := by
  intro n
  induction n with
  | zero =>
    intro x1 x4 st hf
    rw [S_X6_appendText_c45] at hf
    cases hf
  | succ n ih =>
    intro x1 x4 st hf
    rw [S_X6_appendText_c45] at hf
    refine aw_iload 2 dX6_appendText_45 rfl ?_
    refine aw_if_lt 88 dX6_appendText_47 (by decide) (fun c7 => ?_) (fun c7 => ?_)
    · have hf := it_t c7 hf
      refine aw_aload_n 0 dX6_appendText_88 rfl rfl ?_
      refine aw_get (v := .int (st.1 1)) (mg_o hok) rfl in_X6 4 (by decide) q1743 (Or.inl rfl) rfl dX6_appendText_89 ?_
      cases hf
      exact aw_iret rfl dX6_appendText_92 aP1_rfl (Nat.le_refl _) (Nat.le_refl _)
    · have hf := it_f c7 hf
      refine aw_aload_n 0 dX6_appendText_50 rfl rfl ?_
      refine aw_get (v := .ref (ad 2)) (mg_o hok) rfl in_X6 3 (by decide) q1742 (Or.inl rfl) rfl dX6_appendText_51 ?_
      refine aw_aload_n 0 dX6_appendText_54 rfl rfl ?_
      refine aw_get (v := .int (st.1 1)) (mg_o hok) rfl in_X6 4 (by decide) q1743 (Or.inl rfl) rfl dX6_appendText_55 ?_
      refine aw_lload_n 1 dX6_appendText_58 rfl rfl ?_
      refine aw_bipush (v := 8) dX6_appendText_59 (by decide) ?_
      refine aw_iload 2 dX6_appendText_61 rfl ?_
      refine aw_imul dX6_appendText_63 ?_
      refine aw_lushr dX6_appendText_64 ?_
      refine aw_ldc2 (v := 255) q2218 dX6_appendText_65 ?_
      refine aw_land dX6_appendText_68 ?_
      refine aw_l2i dX6_appendText_69 ?_
      refine aw_i2c dX6_appendText_70 ?_
      obtain ⟨j8, z9, ej8, hf⟩ := ob_s hf
      refine aw_castj (mg_2 hok) z9 ej8 (mu_2 hok) dX6_appendText_71 ?_
      refine aw_st (fun u10 eu10 => ?_)
      have hf := onm_a eu10 hf
      refine aw_aload_n 0 dX6_appendText_72 rfl rfl ?_
      refine aw_dup dX6_appendText_73 rfl ?_
      refine aw_get (v := .int (u10.1 1)) (mg_o hok) rfl in_X6 4 (by decide) q1743 (Or.inl rfl) rfl dX6_appendText_74 ?_
      refine aw_iconst (v := 1) dX6_appendText_77 (by decide) ?_
      refine aw_iadd dX6_appendText_78 ?_
      refine aw_put (mg_o hok) rfl in_X6 tyX6_ok nmX6 4 (by decide) q1743 (Or.inl rfl) rfl rfl rfl (Nat.le_of_ble_eq_true rfl) (mu_i1 hok) dX6_appendText_79 ?_
      refine aw_st (fun u11 eu11 => ?_)
      have hf := onm_a eu11 hf
      refine aw_iinc 2 (v := x4 + (-1)) (lv' := [(4, .int (x4 + (-1))), (0, .ref (ad 13)), (1, .long x1)]) dX6_appendText_82 rfl rfl (Nat.le_of_ble_eq_true rfl) rfl ?_
      refine aw_goto 45 dX6_appendText_85 (by decide) ?_
      refine aw_sub [1, 2, 0] rfl ?_
      exact ih x1 (x4 + (-1)) u11 hf
def S_X6_appendText_j15 (n : Nat) (x1 : Int64) (x3 : Int32) (xs0 : Int32) (st : MSt) : Option (Int32 × MSt) :=
  if 80 < ((st.1 1) + x3) then
    (S_X6_goes xs0 0 1 st).bind fun q4 =>
    if q4.1 = 0 then
      some (0, q4.2)
    else
      onm (x3 - (1 : Int32)) fun v6 =>
      S_X6_appendText_c45 n x1 v6 q4.2
  else
    (S_X6_goes xs0 1 1 st).bind fun q7 =>
    if q7.1 = 0 then
      some (0, q7.2)
    else
      onm (x3 - (1 : Int32)) fun v9 =>
      S_X6_appendText_c45 n x1 v9 q7.2
set_option maxHeartbeats 2000000 in
theorem A_X6_appendText_j15 {l : Launch} {G : aG} {ad : Nat → Nat} {h0 : aH} (hok : mOk ad) (hl : l.stackTraces = false) {r : Int32 × MSt} : ∀ (n : Nat) (x1 : Int64) (x3 : Int32) (xs0 : Int32) (st : MSt), S_X6_appendText_j15 n x1 x3 xs0 st = some r → AW l G mX6_appendText 2 0 0 (aP1 (some (.int r.1)) (mh ad r.2 h0)) 15 [(0, .ref (ad 13)), (1, .long x1), (3, .int x3)] [.int xs0, .ref (ad 13)] (mh ad st h0) 0 0 := by
  intro n x1 x3 xs0 st hf
  rw [S_X6_appendText_j15] at hf
  refine aw_aload_n 0 dX6_appendText_15 rfl rfl ?_
  refine aw_get (v := .int (st.1 1)) (mg_o hok) rfl in_X6 4 (by decide) q1743 (Or.inl rfl) rfl dX6_appendText_16 ?_
  refine aw_iload_n 2 dX6_appendText_19 rfl rfl ?_
  refine aw_iadd dX6_appendText_20 ?_
  refine aw_bipush (v := 80) dX6_appendText_21 (by decide) ?_
  refine aw_icmp_gt 30 dX6_appendText_23 (by decide) (fun c3 => ?_) (fun c3 => ?_)
  · have hf := it_t c3 hf
    refine aw_iconst (v := 0) dX6_appendText_30 (by decide) ?_
    refine aw_iconst (v := 1) dX6_appendText_31 (by decide) ?_
    obtain ⟨q4, eq4, hf⟩ := Option.bind_eq_some_iff.mp hf
    refine aw_callV (rest := []) (C_X6_goes hok hl eq4) (mg_o hok) rfl rfl nX6_goes q1825 q1827 qs55 q137 q1828 dX6_appendText_32 rfl (by decide) (by decide) (Nat.le_of_ble_eq_true rfl) (Nat.le_refl _) (Nat.le_refl _) (aP1_i ?_) aP1_x
    refine aw_if_ne 40 dX6_appendText_35 (by decide) (fun c5 => ?_) (fun c5 => ?_)
    · have hf := it_f c5 hf
      refine aw_iload_n 2 dX6_appendText_40 rfl rfl ?_
      refine aw_iconst (v := 1) dX6_appendText_41 (by decide) ?_
      refine aw_isub dX6_appendText_42 ?_
      refine aw_topi (fun v6 ev6 => ?_)
      have hf := onm_a ev6 hf
      refine aw_istore (lv' := [(4, .int v6), (0, .ref (ad 13)), (1, .long x1), (3, .int x3)]) dX6_appendText_43 (Nat.le_of_ble_eq_true rfl) rfl ?_
      refine aw_sub [1, 2, 0] rfl ?_
      exact A_X6_appendText_c45 hok hl n x1 v6 q4.2 hf
    · have hf := it_t c5 hf
      refine aw_iconst (v := 0) dX6_appendText_38 (by decide) ?_
      cases hf
      exact aw_iret rfl dX6_appendText_39 aP1_rfl (Nat.le_refl _) (Nat.le_refl _)
  · have hf := it_f c3 hf
    refine aw_iconst (v := 1) dX6_appendText_26 (by decide) ?_
    refine aw_goto 31 dX6_appendText_27 (by decide) ?_
    refine aw_iconst (v := 1) dX6_appendText_31 (by decide) ?_
    obtain ⟨q7, eq7, hf⟩ := Option.bind_eq_some_iff.mp hf
    refine aw_callV (rest := []) (C_X6_goes hok hl eq7) (mg_o hok) rfl rfl nX6_goes q1825 q1827 qs55 q137 q1828 dX6_appendText_32 rfl (by decide) (by decide) (Nat.le_of_ble_eq_true rfl) (Nat.le_refl _) (Nat.le_refl _) (aP1_i ?_) aP1_x
    refine aw_if_ne 40 dX6_appendText_35 (by decide) (fun c8 => ?_) (fun c8 => ?_)
    · have hf := it_f c8 hf
      refine aw_iload_n 2 dX6_appendText_40 rfl rfl ?_
      refine aw_iconst (v := 1) dX6_appendText_41 (by decide) ?_
      refine aw_isub dX6_appendText_42 ?_
      refine aw_topi (fun v9 ev9 => ?_)
      have hf := onm_a ev9 hf
      refine aw_istore (lv' := [(4, .int v9), (0, .ref (ad 13)), (1, .long x1), (3, .int x3)]) dX6_appendText_43 (Nat.le_of_ble_eq_true rfl) rfl ?_
      refine aw_sub [1, 2, 0] rfl ?_
      exact A_X6_appendText_c45 hok hl n x1 v9 q7.2 hf
    · have hf := it_t c8 hf
      refine aw_iconst (v := 0) dX6_appendText_38 (by decide) ?_
      cases hf
      exact aw_iret rfl dX6_appendText_39 aP1_rfl (Nat.le_refl _) (Nat.le_refl _)
def S_X6_appendText (n : Nat) (x1 : Int64) (st : MSt) : Option (Int32 × MSt) :=
  (S_X6_characters n x1).bind fun q1 =>
  if q1 ≤ 0 then
    S_X6_appendText_j15 n x1 q1 0 st
  else
    S_X6_appendText_j15 n x1 q1 1 st
set_option maxHeartbeats 2000000 in
theorem C_X6_appendText {l : Launch} {G : aG} {ad : Nat → Nat} {h0 : aH} (hok : mOk ad) (hl : l.stackTraces = false) {n : Nat} {x1 : Int64} {st : MSt} {r : Int32 × MSt} (hf : S_X6_appendText n x1 st = some r) : aC l G mX6_appendText (ws_ yX6_appendText cX6_appendText 5 (some .int)) 2 0 0 [.ref (ad 13), .long x1] (mh ad st h0) (aP1 (some (.int r.1)) (mh ad r.2 h0)) := by
  refine aC_of (M := mX6_appendText) rfl (by decide) (Nat.le_of_ble_eq_true rfl) hl ?_
  rw [S_X6_appendText] at hf
  refine aw_eqv (lv2 := [(0, .ref (ad 13)), (1, .long x1)]) rfl rfl rfl rfl ?_
  refine aw_lload_n 1 dX6_appendText_0 rfl rfl ?_
  obtain ⟨q1, eq1, hf⟩ := Option.bind_eq_some_iff.mp hf
  refine aw_callS (rest := []) (C_X6_characters hl eq1) nX6_characters q2215 q2216 q137 q2217 dX6_appendText_1 rfl (by decide) (by decide) (Nat.le_of_ble_eq_true rfl) (Nat.le_refl _) (Nat.le_refl _) (aP1_i ?_) aP1_x
  refine aw_istore_n (lv' := [(3, .int q1), (0, .ref (ad 13)), (1, .long x1)]) dX6_appendText_4 rfl (Nat.le_of_ble_eq_true rfl) rfl ?_
  refine aw_aload_n 1 dX6_appendText_5 rfl rfl ?_
  refine aw_iload_n 0 dX6_appendText_6 rfl rfl ?_
  refine aw_if_le 14 dX6_appendText_7 (by decide) (fun c2 => ?_) (fun c2 => ?_)
  · have hf := it_t c2 hf
    refine aw_iconst (v := 0) dX6_appendText_14 (by decide) ?_
    refine aw_sub [1, 2, 0] rfl ?_
    exact A_X6_appendText_j15 hok hl n x1 q1 0 st hf
  · have hf := it_f c2 hf
    refine aw_iconst (v := 1) dX6_appendText_10 (by decide) ?_
    refine aw_goto 15 dX6_appendText_11 (by decide) ?_
    refine aw_sub [1, 2, 0] rfl ?_
    exact A_X6_appendText_j15 hok hl n x1 q1 1 st hf
abbrev mX6_clearText : aM := (yX6_clearText, cX6_clearText, 2, some .int, [])
theorem nX6_clearText : aNoMH yX6_clearText 0 := by decide +kernel
def S_X6_clearText (st : MSt) : Option (Int32 × MSt) :=
  onm (mI st 2 0) fun u1 =>
  onm (mI u1 1 0) fun u2 =>
  some (u1.1 1, u2)
set_option maxHeartbeats 2000000 in
theorem C_X6_clearText {l : Launch} {G : aG} {ad : Nat → Nat} {h0 : aH} (hok : mOk ad) (hl : l.stackTraces = false) {st : MSt} {r : Int32 × MSt} (hf : S_X6_clearText st = some r) : aC l G mX6_clearText (ws_ yX6_clearText cX6_clearText 2 (some .int)) 0 0 0 [.ref (ad 13)] (mh ad st h0) (aP1 (some (.int r.1)) (mh ad r.2 h0)) := by
  refine aC_of (M := mX6_clearText) rfl (by decide) (Nat.le_of_ble_eq_true rfl) hl ?_
  rw [S_X6_clearText] at hf
  refine aw_eqv (lv2 := [(0, .ref (ad 13))]) rfl rfl rfl rfl ?_
  refine aw_aload_n 0 dX6_clearText_0 rfl rfl ?_
  refine aw_iconst (v := 0) dX6_clearText_1 (by decide) ?_
  refine aw_put (mg_o hok) rfl in_X6 tyX6_ok nmX6 5 (by decide) q1744 (Or.inl rfl) rfl rfl rfl (Nat.le_of_ble_eq_true rfl) (mu_i2 hok) dX6_clearText_2 ?_
  refine aw_st (fun u1 eu1 => ?_)
  have hf := onm_a eu1 hf
  refine aw_aload_n 0 dX6_clearText_5 rfl rfl ?_
  refine aw_get (v := .int (u1.1 1)) (mg_o hok) rfl in_X6 4 (by decide) q1743 (Or.inl rfl) rfl dX6_clearText_6 ?_
  refine aw_istore_n (lv' := [(1, .int (u1.1 1)), (0, .ref (ad 13))]) dX6_clearText_9 rfl (Nat.le_of_ble_eq_true rfl) rfl ?_
  refine aw_aload_n 1 dX6_clearText_10 rfl rfl ?_
  refine aw_iconst (v := 0) dX6_clearText_11 (by decide) ?_
  refine aw_put (mg_o hok) rfl in_X6 tyX6_ok nmX6 4 (by decide) q1743 (Or.inl rfl) rfl rfl rfl (Nat.le_of_ble_eq_true rfl) (mu_i1 hok) dX6_clearText_12 ?_
  refine aw_st (fun u2 eu2 => ?_)
  have hf := onm_a eu2 hf
  refine aw_iload_n 0 dX6_clearText_15 rfl rfl ?_
  cases hf
  exact aw_iret rfl dX6_clearText_16 aP1_rfl (Nat.le_refl _) (Nat.le_refl _)
abbrev mX6_textLength : aM := (yX6_textLength, cX6_textLength, 1, some .int, [])
theorem nX6_textLength : aNoMH yX6_textLength 0 := by decide +kernel
def S_X6_textLength (st : MSt) : Option (Int32 × MSt) :=
  (S_X6_told (st.1 1) st).bind fun q1 =>
  some (q1.1, q1.2)
set_option maxHeartbeats 2000000 in
theorem C_X6_textLength {l : Launch} {G : aG} {ad : Nat → Nat} {h0 : aH} (hok : mOk ad) (hl : l.stackTraces = false) {st : MSt} {r : Int32 × MSt} (hf : S_X6_textLength st = some r) : aC l G mX6_textLength (ws_ yX6_textLength cX6_textLength 1 (some .int)) 1 0 0 [.ref (ad 13)] (mh ad st h0) (aP1 (some (.int r.1)) (mh ad r.2 h0)) := by
  refine aC_of (M := mX6_textLength) rfl (by decide) (Nat.le_of_ble_eq_true rfl) hl ?_
  rw [S_X6_textLength] at hf
  refine aw_eqv (lv2 := [(0, .ref (ad 13))]) rfl rfl rfl rfl ?_
  refine aw_aload_n 0 dX6_textLength_0 rfl rfl ?_
  refine aw_aload_n 0 dX6_textLength_1 rfl rfl ?_
  refine aw_get (v := .int (st.1 1)) (mg_o hok) rfl in_X6 4 (by decide) q1743 (Or.inl rfl) rfl dX6_textLength_2 ?_
  obtain ⟨q1, eq1, hf⟩ := Option.bind_eq_some_iff.mp hf
  refine aw_callV (rest := []) (C_X6_told hok hl eq1) (mg_o hok) rfl rfl nX6_told q1918 q1920 qs69 q137 q1921 dX6_textLength_5 rfl (by decide) (by decide) (Nat.le_of_ble_eq_true rfl) (Nat.le_refl _) (Nat.le_refl _) (aP1_i ?_) aP1_x
  cases hf
  exact aw_iret rfl dX6_textLength_8 aP1_rfl (Nat.le_refl _) (Nat.le_refl _)
abbrev mX6_isDigit : aM := (yX6_isDigit, cX6_isDigit, 1, some .boolean, [])
theorem nX6_isDigit : aNoMH yX6_isDigit 0 := by decide +kernel
def S_X6_isDigit (st : MSt) : Option (Int32) :=
  if (st.1 1) ≤ (st.1 3) then
    some 0
  else
    ob (st.1 3) 80 fun j2 =>
    (S_X6_in (st.2.1 2 j2) 48 57).bind fun q4 =>
    if q4 = 0 then
      some 0
    else
      some 1
set_option maxHeartbeats 2000000 in
theorem C_X6_isDigit {l : Launch} {G : aG} {ad : Nat → Nat} {h0 : aH} (hok : mOk ad) (hl : l.stackTraces = false) {st : MSt} {r : Int32} (hf : S_X6_isDigit st = some r) : aC l G mX6_isDigit (ws_ yX6_isDigit cX6_isDigit 1 (some .boolean)) 1 0 0 [.ref (ad 13)] (mh ad st h0) (aP1 (some (.int r)) (mh ad st h0)) := by
  refine aC_of (M := mX6_isDigit) rfl (by decide) (Nat.le_of_ble_eq_true rfl) hl ?_
  rw [S_X6_isDigit] at hf
  refine aw_eqv (lv2 := [(0, .ref (ad 13))]) rfl rfl rfl rfl ?_
  refine aw_aload_n 0 dX6_isDigit_0 rfl rfl ?_
  refine aw_get (v := .int (st.1 3)) (mg_o hok) rfl in_X6 6 (by decide) q1745 (Or.inl rfl) rfl dX6_isDigit_1 ?_
  refine aw_aload_n 0 dX6_isDigit_4 rfl rfl ?_
  refine aw_get (v := .int (st.1 1)) (mg_o hok) rfl in_X6 4 (by decide) q1743 (Or.inl rfl) rfl dX6_isDigit_5 ?_
  refine aw_icmp_ge 34 dX6_isDigit_8 (by decide) (fun c1 => ?_) (fun c1 => ?_)
  · have hf := it_t c1 hf
    refine aw_iconst (v := 0) dX6_isDigit_34 (by decide) ?_
    cases hf
    exact aw_zret rfl rfl dX6_isDigit_35 aP1_rfl (Nat.le_refl _) (Nat.le_refl _)
  · have hf := it_f c1 hf
    refine aw_aload_n 0 dX6_isDigit_11 rfl rfl ?_
    refine aw_get (v := .ref (ad 2)) (mg_o hok) rfl in_X6 3 (by decide) q1742 (Or.inl rfl) rfl dX6_isDigit_12 ?_
    refine aw_aload_n 0 dX6_isDigit_15 rfl rfl ?_
    refine aw_get (v := .int (st.1 3)) (mg_o hok) rfl in_X6 6 (by decide) q1745 (Or.inl rfl) rfl dX6_isDigit_16 ?_
    obtain ⟨j2, z3, ej2, hf⟩ := ob_s hf
    refine aw_caldj (mg_2 hok) z3 ej2 dX6_isDigit_19 ?_
    refine aw_bipush (v := 48) dX6_isDigit_20 (by decide) ?_
    refine aw_bipush (v := 57) dX6_isDigit_22 (by decide) ?_
    obtain ⟨q4, eq4, hf⟩ := Option.bind_eq_some_iff.mp hf
    refine aw_callS (rest := []) (C_X6_in hl eq4) nX6_in q1822 q1823 q137 q1824 dX6_isDigit_24 rfl (by decide) (by decide) (Nat.le_of_ble_eq_true rfl) (Nat.le_refl _) (Nat.le_refl _) (aP1_i ?_) aP1_x
    refine aw_if_eq 34 dX6_isDigit_27 (by decide) (fun c5 => ?_) (fun c5 => ?_)
    · have hf := it_t c5 hf
      refine aw_iconst (v := 0) dX6_isDigit_34 (by decide) ?_
      cases hf
      exact aw_zret rfl rfl dX6_isDigit_35 aP1_rfl (Nat.le_refl _) (Nat.le_refl _)
    · have hf := it_f c5 hf
      refine aw_iconst (v := 1) dX6_isDigit_30 (by decide) ?_
      refine aw_goto 35 dX6_isDigit_31 (by decide) ?_
      cases hf
      exact aw_zret rfl rfl dX6_isDigit_35 aP1_rfl (Nat.le_refl _) (Nat.le_refl _)
abbrev mX6_readsNumber : aM := (yX6_readsNumber, cX6_readsNumber, 1, some .boolean, [])
theorem nX6_readsNumber : aNoMH yX6_readsNumber 0 := by decide +kernel
def S_X6_readsNumber (st : MSt) : Option (Int32 × MSt) :=
  (S_X6_isDigit st).bind fun q1 =>
  if q1 = 0 then
    some (0, st)
  else
    ob (st.1 3) 80 fun j3 =>
    onm (mI st 5 ((st.2.1 2 j3) - (48 : Int32))) fun u5 =>
    onm (mI u5 3 ((u5.1 3) + (1 : Int32))) fun u6 =>
    if (u6.1 5) ≤ 0 then
      some (1, u6)
    else
      (S_X6_isDigit u6).bind fun q8 =>
      if q8 = 0 then
        some (1, u6)
      else
        ob (u6.1 3) 80 fun j10 =>
        onm (mI u6 5 ((((10 : Int32) * (u6.1 5)) + (u6.2.1 2 j10)) - (48 : Int32))) fun u12 =>
        onm (mI u12 3 ((u12.1 3) + (1 : Int32))) fun u13 =>
        some (1, u13)
set_option maxHeartbeats 2000000 in
theorem C_X6_readsNumber {l : Launch} {G : aG} {ad : Nat → Nat} {h0 : aH} (hok : mOk ad) (hl : l.stackTraces = false) {st : MSt} {r : Int32 × MSt} (hf : S_X6_readsNumber st = some r) : aC l G mX6_readsNumber (ws_ yX6_readsNumber cX6_readsNumber 1 (some .boolean)) 2 0 0 [.ref (ad 13)] (mh ad st h0) (aP1 (some (.int r.1)) (mh ad r.2 h0)) := by
  refine aC_of (M := mX6_readsNumber) rfl (by decide) (Nat.le_of_ble_eq_true rfl) hl ?_
  rw [S_X6_readsNumber] at hf
  refine aw_eqv (lv2 := [(0, .ref (ad 13))]) rfl rfl rfl rfl ?_
  refine aw_aload_n 0 dX6_readsNumber_0 rfl rfl ?_
  obtain ⟨q1, eq1, hf⟩ := Option.bind_eq_some_iff.mp hf
  refine aw_callV (rest := []) (C_X6_isDigit hok hl eq1) (mg_o hok) rfl rfl nX6_isDigit q2243 q2245 qs111 q137 q2246 dX6_readsNumber_1 rfl (by decide) (by decide) (Nat.le_of_ble_eq_true rfl) (Nat.le_refl _) (Nat.le_refl _) (aP1_i ?_) aP1_x
  refine aw_if_ne 9 dX6_readsNumber_4 (by decide) (fun c2 => ?_) (fun c2 => ?_)
  · have hf := it_f c2 hf
    refine aw_aload_n 0 dX6_readsNumber_9 rfl rfl ?_
    refine aw_aload_n 0 dX6_readsNumber_10 rfl rfl ?_
    refine aw_get (v := .ref (ad 2)) (mg_o hok) rfl in_X6 3 (by decide) q1742 (Or.inl rfl) rfl dX6_readsNumber_11 ?_
    refine aw_aload_n 0 dX6_readsNumber_14 rfl rfl ?_
    refine aw_get (v := .int (st.1 3)) (mg_o hok) rfl in_X6 6 (by decide) q1745 (Or.inl rfl) rfl dX6_readsNumber_15 ?_
    obtain ⟨j3, z4, ej3, hf⟩ := ob_s hf
    refine aw_caldj (mg_2 hok) z4 ej3 dX6_readsNumber_18 ?_
    refine aw_bipush (v := 48) dX6_readsNumber_19 (by decide) ?_
    refine aw_isub dX6_readsNumber_21 ?_
    refine aw_put (mg_o hok) rfl in_X6 tyX6_ok nmX6 8 (by decide) q1747 (Or.inl rfl) rfl rfl rfl (Nat.le_of_ble_eq_true rfl) (mu_i5 hok) dX6_readsNumber_22 ?_
    refine aw_st (fun u5 eu5 => ?_)
    have hf := onm_a eu5 hf
    refine aw_aload_n 0 dX6_readsNumber_25 rfl rfl ?_
    refine aw_dup dX6_readsNumber_26 rfl ?_
    refine aw_get (v := .int (u5.1 3)) (mg_o hok) rfl in_X6 6 (by decide) q1745 (Or.inl rfl) rfl dX6_readsNumber_27 ?_
    refine aw_iconst (v := 1) dX6_readsNumber_30 (by decide) ?_
    refine aw_iadd dX6_readsNumber_31 ?_
    refine aw_put (mg_o hok) rfl in_X6 tyX6_ok nmX6 6 (by decide) q1745 (Or.inl rfl) rfl rfl rfl (Nat.le_of_ble_eq_true rfl) (mu_i3 hok) dX6_readsNumber_32 ?_
    refine aw_st (fun u6 eu6 => ?_)
    have hf := onm_a eu6 hf
    refine aw_aload_n 0 dX6_readsNumber_35 rfl rfl ?_
    refine aw_get (v := .int (u6.1 5)) (mg_o hok) rfl in_X6 8 (by decide) q1747 (Or.inl rfl) rfl dX6_readsNumber_36 ?_
    refine aw_if_le 83 dX6_readsNumber_39 (by decide) (fun c7 => ?_) (fun c7 => ?_)
    · have hf := it_t c7 hf
      refine aw_iconst (v := 1) dX6_readsNumber_83 (by decide) ?_
      cases hf
      exact aw_zret rfl rfl dX6_readsNumber_84 aP1_rfl (Nat.le_refl _) (Nat.le_refl _)
    · have hf := it_f c7 hf
      refine aw_aload_n 0 dX6_readsNumber_42 rfl rfl ?_
      obtain ⟨q8, eq8, hf⟩ := Option.bind_eq_some_iff.mp hf
      refine aw_callV (rest := []) (C_X6_isDigit hok hl eq8) (mg_o hok) rfl rfl nX6_isDigit q2243 q2245 qs111 q137 q2246 dX6_readsNumber_43 rfl (by decide) (by decide) (Nat.le_of_ble_eq_true rfl) (Nat.le_refl _) (Nat.le_refl _) (aP1_i ?_) aP1_x
      refine aw_if_eq 83 dX6_readsNumber_46 (by decide) (fun c9 => ?_) (fun c9 => ?_)
      · have hf := it_t c9 hf
        refine aw_iconst (v := 1) dX6_readsNumber_83 (by decide) ?_
        cases hf
        exact aw_zret rfl rfl dX6_readsNumber_84 aP1_rfl (Nat.le_refl _) (Nat.le_refl _)
      · have hf := it_f c9 hf
        refine aw_aload_n 0 dX6_readsNumber_49 rfl rfl ?_
        refine aw_bipush (v := 10) dX6_readsNumber_50 (by decide) ?_
        refine aw_aload_n 0 dX6_readsNumber_52 rfl rfl ?_
        refine aw_get (v := .int (u6.1 5)) (mg_o hok) rfl in_X6 8 (by decide) q1747 (Or.inl rfl) rfl dX6_readsNumber_53 ?_
        refine aw_imul dX6_readsNumber_56 ?_
        refine aw_aload_n 0 dX6_readsNumber_57 rfl rfl ?_
        refine aw_get (v := .ref (ad 2)) (mg_o hok) rfl in_X6 3 (by decide) q1742 (Or.inl rfl) rfl dX6_readsNumber_58 ?_
        refine aw_aload_n 0 dX6_readsNumber_61 rfl rfl ?_
        refine aw_get (v := .int (u6.1 3)) (mg_o hok) rfl in_X6 6 (by decide) q1745 (Or.inl rfl) rfl dX6_readsNumber_62 ?_
        obtain ⟨j10, z11, ej10, hf⟩ := ob_s hf
        refine aw_caldj (mg_2 hok) z11 ej10 dX6_readsNumber_65 ?_
        refine aw_iadd dX6_readsNumber_66 ?_
        refine aw_bipush (v := 48) dX6_readsNumber_67 (by decide) ?_
        refine aw_isub dX6_readsNumber_69 ?_
        refine aw_put (mg_o hok) rfl in_X6 tyX6_ok nmX6 8 (by decide) q1747 (Or.inl rfl) rfl rfl rfl (Nat.le_of_ble_eq_true rfl) (mu_i5 hok) dX6_readsNumber_70 ?_
        refine aw_st (fun u12 eu12 => ?_)
        have hf := onm_a eu12 hf
        refine aw_aload_n 0 dX6_readsNumber_73 rfl rfl ?_
        refine aw_dup dX6_readsNumber_74 rfl ?_
        refine aw_get (v := .int (u12.1 3)) (mg_o hok) rfl in_X6 6 (by decide) q1745 (Or.inl rfl) rfl dX6_readsNumber_75 ?_
        refine aw_iconst (v := 1) dX6_readsNumber_78 (by decide) ?_
        refine aw_iadd dX6_readsNumber_79 ?_
        refine aw_put (mg_o hok) rfl in_X6 tyX6_ok nmX6 6 (by decide) q1745 (Or.inl rfl) rfl rfl rfl (Nat.le_of_ble_eq_true rfl) (mu_i3 hok) dX6_readsNumber_80 ?_
        refine aw_st (fun u13 eu13 => ?_)
        have hf := onm_a eu13 hf
        refine aw_iconst (v := 1) dX6_readsNumber_83 (by decide) ?_
        cases hf
        exact aw_zret rfl rfl dX6_readsNumber_84 aP1_rfl (Nat.le_refl _) (Nat.le_refl _)
  · have hf := it_t c2 hf
    refine aw_iconst (v := 0) dX6_readsNumber_7 (by decide) ?_
    cases hf
    exact aw_zret rfl rfl dX6_readsNumber_8 aP1_rfl (Nat.le_refl _) (Nat.le_refl _)
abbrev mX6_takes : aM := (yX6_takes, cX6_takes, 3, some .boolean, [])
theorem nX6_takes : aNoMH yX6_takes 1 := by decide +kernel
def S_X6_takes (x1 : Int32) (st : MSt) : Option (Int32 × MSt) :=
  if (st.1 1) ≤ (st.1 3) then
    (S_X6_flag 0).bind fun q2 =>
    onm (mI st 3 ((st.1 3) + q2)) fun u3 =>
    some (0, u3)
  else
    ob (st.1 3) 80 fun j4 =>
    if (st.2.1 2 j4) = x1 then
      (S_X6_flag 1).bind fun q9 =>
      onm (mI st 3 ((st.1 3) + q9)) fun u10 =>
      some (1, u10)
    else
      (S_X6_flag 0).bind fun q7 =>
      onm (mI st 3 ((st.1 3) + q7)) fun u8 =>
      some (0, u8)
set_option maxHeartbeats 2000000 in
theorem C_X6_takes {l : Launch} {G : aG} {ad : Nat → Nat} {h0 : aH} (hok : mOk ad) (hl : l.stackTraces = false) {x1 : Int32} {st : MSt} {r : Int32 × MSt} (hf : S_X6_takes x1 st = some r) : aC l G mX6_takes (ws_ yX6_takes cX6_takes 3 (some .boolean)) 1 0 0 [.ref (ad 13), .int x1] (mh ad st h0) (aP1 (some (.int r.1)) (mh ad r.2 h0)) := by
  refine aC_of (M := mX6_takes) rfl (by decide) (Nat.le_of_ble_eq_true rfl) hl ?_
  rw [S_X6_takes] at hf
  refine aw_eqv (lv2 := [(0, .ref (ad 13)), (1, .int x1)]) rfl rfl rfl rfl ?_
  refine aw_aload_n 0 dX6_takes_0 rfl rfl ?_
  refine aw_get (v := .int (st.1 3)) (mg_o hok) rfl in_X6 6 (by decide) q1745 (Or.inl rfl) rfl dX6_takes_1 ?_
  refine aw_aload_n 0 dX6_takes_4 rfl rfl ?_
  refine aw_get (v := .int (st.1 1)) (mg_o hok) rfl in_X6 4 (by decide) q1743 (Or.inl rfl) rfl dX6_takes_5 ?_
  refine aw_icmp_ge 28 dX6_takes_8 (by decide) (fun c1 => ?_) (fun c1 => ?_)
  · have hf := it_t c1 hf
    refine aw_iconst (v := 0) dX6_takes_28 (by decide) ?_
    refine aw_istore_n (lv' := [(2, .int 0), (0, .ref (ad 13)), (1, .int x1)]) dX6_takes_29 rfl (Nat.le_of_ble_eq_true rfl) rfl ?_
    refine aw_aload_n 1 dX6_takes_30 rfl rfl ?_
    refine aw_dup dX6_takes_31 rfl ?_
    refine aw_get (v := .int (st.1 3)) (mg_o hok) rfl in_X6 6 (by decide) q1745 (Or.inl rfl) rfl dX6_takes_32 ?_
    refine aw_iload_n 0 dX6_takes_35 rfl rfl ?_
    obtain ⟨q2, eq2, hf⟩ := Option.bind_eq_some_iff.mp hf
    refine aw_callS (rest := [.int (st.1 3), .ref (ad 13)]) (C_X6_flag hl eq2) nX6_flag q1865 q1866 q137 q1867 dX6_takes_36 rfl (by decide) (by decide) (Nat.le_of_ble_eq_true rfl) (Nat.le_refl _) (Nat.le_refl _) (aP1_i ?_) aP1_x
    refine aw_iadd dX6_takes_39 ?_
    refine aw_put (mg_o hok) rfl in_X6 tyX6_ok nmX6 6 (by decide) q1745 (Or.inl rfl) rfl rfl rfl (Nat.le_of_ble_eq_true rfl) (mu_i3 hok) dX6_takes_40 ?_
    refine aw_st (fun u3 eu3 => ?_)
    have hf := onm_a eu3 hf
    refine aw_iload_n 0 dX6_takes_43 rfl rfl ?_
    cases hf
    exact aw_zret rfl rfl dX6_takes_44 aP1_rfl (Nat.le_refl _) (Nat.le_refl _)
  · have hf := it_f c1 hf
    refine aw_aload_n 0 dX6_takes_11 rfl rfl ?_
    refine aw_get (v := .ref (ad 2)) (mg_o hok) rfl in_X6 3 (by decide) q1742 (Or.inl rfl) rfl dX6_takes_12 ?_
    refine aw_aload_n 0 dX6_takes_15 rfl rfl ?_
    refine aw_get (v := .int (st.1 3)) (mg_o hok) rfl in_X6 6 (by decide) q1745 (Or.inl rfl) rfl dX6_takes_16 ?_
    obtain ⟨j4, z5, ej4, hf⟩ := ob_s hf
    refine aw_caldj (mg_2 hok) z5 ej4 dX6_takes_19 ?_
    refine aw_iload_n 1 dX6_takes_20 rfl rfl ?_
    refine aw_icmp_ne 28 dX6_takes_21 (by decide) (fun c6 => ?_) (fun c6 => ?_)
    · have hf := it_f c6 hf
      refine aw_iconst (v := 0) dX6_takes_28 (by decide) ?_
      refine aw_istore_n (lv' := [(2, .int 0), (0, .ref (ad 13)), (1, .int x1)]) dX6_takes_29 rfl (Nat.le_of_ble_eq_true rfl) rfl ?_
      refine aw_aload_n 1 dX6_takes_30 rfl rfl ?_
      refine aw_dup dX6_takes_31 rfl ?_
      refine aw_get (v := .int (st.1 3)) (mg_o hok) rfl in_X6 6 (by decide) q1745 (Or.inl rfl) rfl dX6_takes_32 ?_
      refine aw_iload_n 0 dX6_takes_35 rfl rfl ?_
      obtain ⟨q7, eq7, hf⟩ := Option.bind_eq_some_iff.mp hf
      refine aw_callS (rest := [.int (st.1 3), .ref (ad 13)]) (C_X6_flag hl eq7) nX6_flag q1865 q1866 q137 q1867 dX6_takes_36 rfl (by decide) (by decide) (Nat.le_of_ble_eq_true rfl) (Nat.le_refl _) (Nat.le_refl _) (aP1_i ?_) aP1_x
      refine aw_iadd dX6_takes_39 ?_
      refine aw_put (mg_o hok) rfl in_X6 tyX6_ok nmX6 6 (by decide) q1745 (Or.inl rfl) rfl rfl rfl (Nat.le_of_ble_eq_true rfl) (mu_i3 hok) dX6_takes_40 ?_
      refine aw_st (fun u8 eu8 => ?_)
      have hf := onm_a eu8 hf
      refine aw_iload_n 0 dX6_takes_43 rfl rfl ?_
      cases hf
      exact aw_zret rfl rfl dX6_takes_44 aP1_rfl (Nat.le_refl _) (Nat.le_refl _)
    · have hf := it_t c6 hf
      refine aw_iconst (v := 1) dX6_takes_24 (by decide) ?_
      refine aw_goto 29 dX6_takes_25 (by decide) ?_
      refine aw_istore_n (lv' := [(2, .int 1), (0, .ref (ad 13)), (1, .int x1)]) dX6_takes_29 rfl (Nat.le_of_ble_eq_true rfl) rfl ?_
      refine aw_aload_n 1 dX6_takes_30 rfl rfl ?_
      refine aw_dup dX6_takes_31 rfl ?_
      refine aw_get (v := .int (st.1 3)) (mg_o hok) rfl in_X6 6 (by decide) q1745 (Or.inl rfl) rfl dX6_takes_32 ?_
      refine aw_iload_n 0 dX6_takes_35 rfl rfl ?_
      obtain ⟨q9, eq9, hf⟩ := Option.bind_eq_some_iff.mp hf
      refine aw_callS (rest := [.int (st.1 3), .ref (ad 13)]) (C_X6_flag hl eq9) nX6_flag q1865 q1866 q137 q1867 dX6_takes_36 rfl (by decide) (by decide) (Nat.le_of_ble_eq_true rfl) (Nat.le_refl _) (Nat.le_refl _) (aP1_i ?_) aP1_x
      refine aw_iadd dX6_takes_39 ?_
      refine aw_put (mg_o hok) rfl in_X6 tyX6_ok nmX6 6 (by decide) q1745 (Or.inl rfl) rfl rfl rfl (Nat.le_of_ble_eq_true rfl) (mu_i3 hok) dX6_takes_40 ?_
      refine aw_st (fun u10 eu10 => ?_)
      have hf := onm_a eu10 hf
      refine aw_iload_n 0 dX6_takes_43 rfl rfl ?_
      cases hf
      exact aw_zret rfl rfl dX6_takes_44 aP1_rfl (Nat.le_refl _) (Nat.le_refl _)
