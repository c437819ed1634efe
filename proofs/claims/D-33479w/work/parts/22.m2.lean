/-! the model: shallow functions and walks (printed by gen.py) -/
set_option maxRecDepth 100000
abbrev mX6_mirror : aM := (yX6_mirror, cX6_mirror, 4, some .int, [])
theorem nX6_mirror : aNoMH yX6_mirror 0 := by decide +kernel
def S_X6_mirror_c55 (K86 : Int32 → Int32 → MSt → Option (Int32 × MSt)) : Nat → Int32 → Int32 → Int32 → MSt → Option (Int32 × MSt)
  | 0, _, _, _, _ => none
  | n + 1, x1, x2, x3, st =>
    if x2 ≤ x3 then
      K86 x1 x2 st
    else
      (S_X6_swaps (((23 : Int32) + (x1 * x2)) + x3) (((23 : Int32) + (x1 * x3)) + x2) st).bind fun q8 =>
      S_X6_mirror_c55 K86 n x1 x2 (x3 + 1) q8
set_option maxHeartbeats 2000000 in
theorem A_X6_mirror_c55 {l : Launch} {G : aG} {ad : Nat → Nat} {h0 : aH} (hok : mOk ad) (hl : l.stackTraces = false) {r : Int32 × MSt} {K86 : Int32 → Int32 → MSt → Option (Int32 × MSt)} (hK86 : ∀ (w1 : Int32) (w2 : Int32) (st : MSt), K86 w1 w2 st = some r → AW l G mX6_mirror 2 0 0 (aP1 (some (.int r.1)) (mh ad r.2 h0)) 86 [(0, .ref (ad 13)), (1, .int w1), (2, .int w2)] [] (mh ad st h0) 0 0) : ∀ (n : Nat) (x1 : Int32) (x2 : Int32) (x3 : Int32) (st : MSt), S_X6_mirror_c55 K86 n x1 x2 x3 st = some r → AW l G mX6_mirror 2 0 0 (aP1 (some (.int r.1)) (mh ad r.2 h0)) 55 [(0, .ref (ad 13)), (1, .int x1), (2, .int x2), (3, .int x3)] [] (mh ad st h0) 0 0 := by
  intro n
  induction n with
  | zero =>
    intro x1 x2 x3 st hf
    rw [S_X6_mirror_c55] at hf
    cases hf
  | succ n ih =>
    intro x1 x2 x3 st hf
    rw [S_X6_mirror_c55] at hf
    refine aw_iload_n 3 dX6_mirror_55 rfl rfl ?_
    refine aw_iload_n 2 dX6_mirror_56 rfl rfl ?_
    refine aw_icmp_ge 86 dX6_mirror_57 (by decide) (fun c7 => ?_) (fun c7 => ?_)
    · have hf := it_t c7 hf
      refine aw_sub [0, 1, 2] rfl ?_
      exact hK86 x1 x2 st hf
    · have hf := it_f c7 hf
      refine aw_aload_n 0 dX6_mirror_60 rfl rfl ?_
      refine aw_bipush (v := 23) dX6_mirror_61 (by decide) ?_
      refine aw_iload_n 1 dX6_mirror_63 rfl rfl ?_
      refine aw_iload_n 2 dX6_mirror_64 rfl rfl ?_
      refine aw_imul dX6_mirror_65 ?_
      refine aw_iadd dX6_mirror_66 ?_
      refine aw_iload_n 3 dX6_mirror_67 rfl rfl ?_
      refine aw_iadd dX6_mirror_68 ?_
      refine aw_bipush (v := 23) dX6_mirror_69 (by decide) ?_
      refine aw_iload_n 1 dX6_mirror_71 rfl rfl ?_
      refine aw_iload_n 3 dX6_mirror_72 rfl rfl ?_
      refine aw_imul dX6_mirror_73 ?_
      refine aw_iadd dX6_mirror_74 ?_
      refine aw_iload_n 2 dX6_mirror_75 rfl rfl ?_
      refine aw_iadd dX6_mirror_76 ?_
      obtain ⟨q8, eq8, hf⟩ := Option.bind_eq_some_iff.mp hf
      refine aw_callV (rest := []) (C_X6_swaps hok hl eq8) (mg_o hok) rfl rfl nX6_swaps q1910 q1912 qs68 q137 q1913 dX6_mirror_77 rfl (by decide) (by decide) (Nat.le_of_ble_eq_true rfl) (Nat.le_refl _) (Nat.le_refl _) (aP1_v ?_) aP1_x
      refine aw_iinc 3 (v := x3 + 1) (lv' := [(3, .int (x3 + 1)), (0, .ref (ad 13)), (1, .int x1), (2, .int x2)]) dX6_mirror_80 rfl rfl (Nat.le_of_ble_eq_true rfl) rfl ?_
      refine aw_goto 55 dX6_mirror_83 (by decide) ?_
      refine aw_sub [1, 2, 3, 0] rfl ?_
      exact ih x1 x2 (x3 + 1) q8 hf
def S_X6_mirror_c18 (K92 : MSt → Option (Int32 × MSt)) : Nat → Int32 → Int32 → MSt → Option (Int32 × MSt)
  | 0, _, _, _ => none
  | n + 1, x1, x2, st =>
    if x1 ≤ x2 then
      K92 st
    else
      (S_X6_swaps ((3 : Int32) + x2) (((3 : Int32) + ((3 : Int32) * x1)) + x2) st).bind fun q5 =>
      (S_X6_swaps (((3 : Int32) + x1) + x2) (((3 : Int32) + ((2 : Int32) * x1)) + x2) q5).bind fun q6 =>
      S_X6_mirror_c55
        (fun y7_1 y7_2 u8 => 
            S_X6_mirror_c18 K92 n y7_1 (y7_2 + 1) u8)
         n x1 x2 0 q6
set_option maxHeartbeats 2000000 in
theorem A_X6_mirror_c18 {l : Launch} {G : aG} {ad : Nat → Nat} {h0 : aH} (hok : mOk ad) (hl : l.stackTraces = false) {r : Int32 × MSt} {K92 : MSt → Option (Int32 × MSt)} (hK92 : ∀ (st : MSt), K92 st = some r → AW l G mX6_mirror 2 0 0 (aP1 (some (.int r.1)) (mh ad r.2 h0)) 92 [(0, .ref (ad 13))] [] (mh ad st h0) 0 0) : ∀ (n : Nat) (x1 : Int32) (x2 : Int32) (st : MSt), S_X6_mirror_c18 K92 n x1 x2 st = some r → AW l G mX6_mirror 2 0 0 (aP1 (some (.int r.1)) (mh ad r.2 h0)) 18 [(0, .ref (ad 13)), (1, .int x1), (2, .int x2)] [] (mh ad st h0) 0 0 := by
  intro n
  induction n with
  | zero =>
    intro x1 x2 st hf
    rw [S_X6_mirror_c18] at hf
    cases hf
  | succ n ih =>
    intro x1 x2 st hf
    rw [S_X6_mirror_c18] at hf
    refine aw_iload_n 2 dX6_mirror_18 rfl rfl ?_
    refine aw_iload_n 1 dX6_mirror_19 rfl rfl ?_
    refine aw_icmp_ge 92 dX6_mirror_20 (by decide) (fun c4 => ?_) (fun c4 => ?_)
    · have hf := it_t c4 hf
      refine aw_sub [0] rfl ?_
      exact hK92 st hf
    · have hf := it_f c4 hf
      refine aw_aload_n 0 dX6_mirror_23 rfl rfl ?_
      refine aw_iconst (v := 3) dX6_mirror_24 (by decide) ?_
      refine aw_iload_n 2 dX6_mirror_25 rfl rfl ?_
      refine aw_iadd dX6_mirror_26 ?_
      refine aw_iconst (v := 3) dX6_mirror_27 (by decide) ?_
      refine aw_iconst (v := 3) dX6_mirror_28 (by decide) ?_
      refine aw_iload_n 1 dX6_mirror_29 rfl rfl ?_
      refine aw_imul dX6_mirror_30 ?_
      refine aw_iadd dX6_mirror_31 ?_
      refine aw_iload_n 2 dX6_mirror_32 rfl rfl ?_
      refine aw_iadd dX6_mirror_33 ?_
      obtain ⟨q5, eq5, hf⟩ := Option.bind_eq_some_iff.mp hf
      refine aw_callV (rest := []) (C_X6_swaps hok hl eq5) (mg_o hok) rfl rfl nX6_swaps q1910 q1912 qs68 q137 q1913 dX6_mirror_34 rfl (by decide) (by decide) (Nat.le_of_ble_eq_true rfl) (Nat.le_refl _) (Nat.le_refl _) (aP1_v ?_) aP1_x
      refine aw_aload_n 0 dX6_mirror_37 rfl rfl ?_
      refine aw_iconst (v := 3) dX6_mirror_38 (by decide) ?_
      refine aw_iload_n 1 dX6_mirror_39 rfl rfl ?_
      refine aw_iadd dX6_mirror_40 ?_
      refine aw_iload_n 2 dX6_mirror_41 rfl rfl ?_
      refine aw_iadd dX6_mirror_42 ?_
      refine aw_iconst (v := 3) dX6_mirror_43 (by decide) ?_
      refine aw_iconst (v := 2) dX6_mirror_44 (by decide) ?_
      refine aw_iload_n 1 dX6_mirror_45 rfl rfl ?_
      refine aw_imul dX6_mirror_46 ?_
      refine aw_iadd dX6_mirror_47 ?_
      refine aw_iload_n 2 dX6_mirror_48 rfl rfl ?_
      refine aw_iadd dX6_mirror_49 ?_
      obtain ⟨q6, eq6, hf⟩ := Option.bind_eq_some_iff.mp hf
      refine aw_callV (rest := []) (C_X6_swaps hok hl eq6) (mg_o hok) rfl rfl nX6_swaps q1910 q1912 qs68 q137 q1913 dX6_mirror_50 rfl (by decide) (by decide) (Nat.le_of_ble_eq_true rfl) (Nat.le_refl _) (Nat.le_refl _) (aP1_v ?_) aP1_x
      refine aw_iconst (v := 0) dX6_mirror_53 (by decide) ?_
      refine aw_istore_n (lv' := [(3, .int 0), (0, .ref (ad 13)), (1, .int x1), (2, .int x2)]) dX6_mirror_54 rfl (Nat.le_of_ble_eq_true rfl) rfl ?_
      refine aw_sub [1, 2, 3, 0] rfl ?_
      refine A_X6_mirror_c55 hok hl ?_ n x1 x2 0 q6 hf
      · intro y7_1 y7_2 u8 hf
        refine aw_iinc 2 (v := y7_2 + 1) (lv' := [(2, .int (y7_2 + 1)), (0, .ref (ad 13)), (1, .int y7_1)]) dX6_mirror_86 rfl rfl (Nat.le_of_ble_eq_true rfl) rfl ?_
        refine aw_goto 18 dX6_mirror_89 (by decide) ?_
        refine aw_sub [1, 2, 0] rfl ?_
        exact ih y7_1 (y7_2 + 1) u8 hf
def S_X6_mirror (n : Nat) (st : MSt) : Option (Int32 × MSt) :=
  onm (mI st 2 0) fun u1 =>
  (S_X6_records n u1).bind fun q2 =>
  onm (q2.2.1 0 0) fun v3 =>
  S_X6_mirror_c18
    (fun u10 => 
        (S_X6_tellings n u10).bind fun q11 =>
        some (q11, u10))
     n v3 0 q2
set_option maxHeartbeats 2000000 in
theorem C_X6_mirror {l : Launch} {G : aG} {ad : Nat → Nat} {h0 : aH} (hok : mOk ad) (hl : l.stackTraces = false) {n : Nat} {st : MSt} {r : Int32 × MSt} (hf : S_X6_mirror n st = some r) : aC l G mX6_mirror (ws_ yX6_mirror cX6_mirror 4 (some .int)) 2 0 0 [.ref (ad 13)] (mh ad st h0) (aP1 (some (.int r.1)) (mh ad r.2 h0)) := by
  refine aC_of (M := mX6_mirror) rfl (by decide) (Nat.le_of_ble_eq_true rfl) hl ?_
  rw [S_X6_mirror] at hf
  refine aw_eqv (lv2 := [(0, .ref (ad 13))]) rfl rfl rfl rfl ?_
  refine aw_aload_n 0 dX6_mirror_0 rfl rfl ?_
  refine aw_iconst (v := 0) dX6_mirror_1 (by decide) ?_
  refine aw_put (mg_o hok) rfl in_X6 tyX6_ok nmX6 5 (by decide) q1744 (Or.inl rfl) rfl rfl rfl (Nat.le_of_ble_eq_true rfl) (mu_i2 hok) dX6_mirror_2 ?_
  refine aw_st (fun u1 eu1 => ?_)
  have hf := onm_a eu1 hf
  refine aw_aload_n 0 dX6_mirror_5 rfl rfl ?_
  obtain ⟨q2, eq2, hf⟩ := Option.bind_eq_some_iff.mp hf
  refine aw_callV (rest := []) (C_X6_records hok hl eq2) (mg_o hok) rfl rfl nX6_records q1829 q1831 qs56 q137 q1832 dX6_mirror_6 rfl (by decide) (by decide) (Nat.le_of_ble_eq_true rfl) (Nat.le_refl _) (Nat.le_refl _) (aP1_v ?_) aP1_x
  refine aw_aload_n 0 dX6_mirror_9 rfl rfl ?_
  refine aw_get (v := .ref (ad 0)) (mg_o hok) rfl in_X6 0 (by decide) q1739 (Or.inl rfl) rfl dX6_mirror_10 ?_
  refine aw_iconst (v := 0) dX6_mirror_13 (by decide) ?_
  refine aw_ialdj (j := 0) (mg_0 hok) (vpc (by decide)) (by decide) dX6_mirror_14 ?_
  refine aw_topi (fun v3 ev3 => ?_)
  have hf := onm_a ev3 hf
  refine aw_istore_n (lv' := [(1, .int v3), (0, .ref (ad 13))]) dX6_mirror_15 rfl (Nat.le_of_ble_eq_true rfl) rfl ?_
  refine aw_iconst (v := 0) dX6_mirror_16 (by decide) ?_
  refine aw_istore_n (lv' := [(2, .int 0), (1, .int v3), (0, .ref (ad 13))]) dX6_mirror_17 rfl (Nat.le_of_ble_eq_true rfl) rfl ?_
  refine aw_sub [2, 1, 0] rfl ?_
  refine A_X6_mirror_c18 hok hl ?_ n v3 0 q2 hf
  · intro u10 hf
    refine aw_aload_n 0 dX6_mirror_92 rfl rfl ?_
    obtain ⟨q11, eq11, hf⟩ := Option.bind_eq_some_iff.mp hf
    refine aw_callV (rest := []) (C_X6_tellings hok hl eq11) (mg_o hok) rfl rfl nX6_tellings q1872 q1874 qs63 q137 q1875 dX6_mirror_93 rfl (by decide) (by decide) (Nat.le_of_ble_eq_true rfl) (Nat.le_refl _) (Nat.le_refl _) (aP1_i ?_) aP1_x
    cases hf
    exact aw_iret rfl dX6_mirror_96 aP1_rfl (Nat.le_refl _) (Nat.le_refl _)
abbrev mX6_told : aM := (yX6_told, cX6_told, 2, some .int, [])
theorem nX6_told : aNoMH yX6_told 1 := by decide +kernel
def S_X6_told (x1 : Int32) (st : MSt) : Option (Int32 × MSt) :=
  onm (mI st 2 0) fun u1 =>
  some (x1, u1)
set_option maxHeartbeats 2000000 in
theorem C_X6_told {l : Launch} {G : aG} {ad : Nat → Nat} {h0 : aH} (hok : mOk ad) (hl : l.stackTraces = false) {x1 : Int32} {st : MSt} {r : Int32 × MSt} (hf : S_X6_told x1 st = some r) : aC l G mX6_told (ws_ yX6_told cX6_told 2 (some .int)) 0 0 0 [.ref (ad 13), .int x1] (mh ad st h0) (aP1 (some (.int r.1)) (mh ad r.2 h0)) := by
  refine aC_of (M := mX6_told) rfl (by decide) (Nat.le_of_ble_eq_true rfl) hl ?_
  rw [S_X6_told] at hf
  refine aw_eqv (lv2 := [(0, .ref (ad 13)), (1, .int x1)]) rfl rfl rfl rfl ?_
  refine aw_aload_n 0 dX6_told_0 rfl rfl ?_
  refine aw_iconst (v := 0) dX6_told_1 (by decide) ?_
  refine aw_put (mg_o hok) rfl in_X6 tyX6_ok nmX6 5 (by decide) q1744 (Or.inl rfl) rfl rfl rfl (Nat.le_of_ble_eq_true rfl) (mu_i2 hok) dX6_told_2 ?_
  refine aw_st (fun u1 eu1 => ?_)
  have hf := onm_a eu1 hf
  refine aw_iload_n 1 dX6_told_5 rfl rfl ?_
  cases hf
  exact aw_iret rfl dX6_told_6 aP1_rfl (Nat.le_refl _) (Nat.le_refl _)
abbrev mX6_side : aM := (yX6_side, cX6_side, 1, some .int, [])
theorem nX6_side : aNoMH yX6_side 0 := by decide +kernel
def S_X6_side (st : MSt) : Option (Int32 × MSt) :=
  (S_X6_told (st.2.1 0 0) st).bind fun q1 =>
  some (q1.1, q1.2)
set_option maxHeartbeats 2000000 in
theorem C_X6_side {l : Launch} {G : aG} {ad : Nat → Nat} {h0 : aH} (hok : mOk ad) (hl : l.stackTraces = false) {st : MSt} {r : Int32 × MSt} (hf : S_X6_side st = some r) : aC l G mX6_side (ws_ yX6_side cX6_side 1 (some .int)) 1 0 0 [.ref (ad 13)] (mh ad st h0) (aP1 (some (.int r.1)) (mh ad r.2 h0)) := by
  refine aC_of (M := mX6_side) rfl (by decide) (Nat.le_of_ble_eq_true rfl) hl ?_
  rw [S_X6_side] at hf
  refine aw_eqv (lv2 := [(0, .ref (ad 13))]) rfl rfl rfl rfl ?_
  refine aw_aload_n 0 dX6_side_0 rfl rfl ?_
  refine aw_aload_n 0 dX6_side_1 rfl rfl ?_
  refine aw_get (v := .ref (ad 0)) (mg_o hok) rfl in_X6 0 (by decide) q1739 (Or.inl rfl) rfl dX6_side_2 ?_
  refine aw_iconst (v := 0) dX6_side_5 (by decide) ?_
  refine aw_ialdj (j := 0) (mg_0 hok) (vpc (by decide)) (by decide) dX6_side_6 ?_
  obtain ⟨q1, eq1, hf⟩ := Option.bind_eq_some_iff.mp hf
  refine aw_callV (rest := []) (C_X6_told hok hl eq1) (mg_o hok) rfl rfl nX6_told q1918 q1920 qs69 q137 q1921 dX6_side_7 rfl (by decide) (by decide) (Nat.le_of_ble_eq_true rfl) (Nat.le_refl _) (Nat.le_refl _) (aP1_i ?_) aP1_x
  cases hf
  exact aw_iret rfl dX6_side_10 aP1_rfl (Nat.le_refl _) (Nat.le_refl _)
abbrev mX6_letterCount : aM := (yX6_letterCount, cX6_letterCount, 1, some .int, [])
theorem nX6_letterCount : aNoMH yX6_letterCount 0 := by decide +kernel
def S_X6_letterCount (st : MSt) : Option (Int32 × MSt) :=
  (S_X6_told (st.2.1 0 1) st).bind fun q1 =>
  some (q1.1, q1.2)
set_option maxHeartbeats 2000000 in
theorem C_X6_letterCount {l : Launch} {G : aG} {ad : Nat → Nat} {h0 : aH} (hok : mOk ad) (hl : l.stackTraces = false) {st : MSt} {r : Int32 × MSt} (hf : S_X6_letterCount st = some r) : aC l G mX6_letterCount (ws_ yX6_letterCount cX6_letterCount 1 (some .int)) 1 0 0 [.ref (ad 13)] (mh ad st h0) (aP1 (some (.int r.1)) (mh ad r.2 h0)) := by
  refine aC_of (M := mX6_letterCount) rfl (by decide) (Nat.le_of_ble_eq_true rfl) hl ?_
  rw [S_X6_letterCount] at hf
  refine aw_eqv (lv2 := [(0, .ref (ad 13))]) rfl rfl rfl rfl ?_
  refine aw_aload_n 0 dX6_letterCount_0 rfl rfl ?_
  refine aw_aload_n 0 dX6_letterCount_1 rfl rfl ?_
  refine aw_get (v := .ref (ad 0)) (mg_o hok) rfl in_X6 0 (by decide) q1739 (Or.inl rfl) rfl dX6_letterCount_2 ?_
  refine aw_iconst (v := 1) dX6_letterCount_5 (by decide) ?_
  refine aw_ialdj (j := 1) (mg_0 hok) (vpc (by decide)) (by decide) dX6_letterCount_6 ?_
  obtain ⟨q1, eq1, hf⟩ := Option.bind_eq_some_iff.mp hf
  refine aw_callV (rest := []) (C_X6_told hok hl eq1) (mg_o hok) rfl rfl nX6_told q1918 q1920 qs69 q137 q1921 dX6_letterCount_7 rfl (by decide) (by decide) (Nat.le_of_ble_eq_true rfl) (Nat.le_refl _) (Nat.le_refl _) (aP1_i ?_) aP1_x
  cases hf
  exact aw_iret rfl dX6_letterCount_10 aP1_rfl (Nat.le_refl _) (Nat.le_refl _)
abbrev mX6_lines : aM := (yX6_lines, cX6_lines, 1, some .int, [])
theorem nX6_lines : aNoMH yX6_lines 0 := by decide +kernel
def S_X6_lines (st : MSt) : Option (Int32) :=
  some (((2 : Int32) * (st.2.1 0 0)) + ((2 : Int32) * (st.2.1 0 2)))
set_option maxHeartbeats 2000000 in
theorem C_X6_lines {l : Launch} {G : aG} {ad : Nat → Nat} {h0 : aH} (hok : mOk ad) (hl : l.stackTraces = false) {st : MSt} {r : Int32} (hf : S_X6_lines st = some r) : aC l G mX6_lines (ws_ yX6_lines cX6_lines 1 (some .int)) 0 0 0 [.ref (ad 13)] (mh ad st h0) (aP1 (some (.int r)) (mh ad st h0)) := by
  refine aC_of (M := mX6_lines) rfl (by decide) (Nat.le_of_ble_eq_true rfl) hl ?_
  rw [S_X6_lines] at hf
  refine aw_eqv (lv2 := [(0, .ref (ad 13))]) rfl rfl rfl rfl ?_
  refine aw_iconst (v := 2) dX6_lines_0 (by decide) ?_
  refine aw_aload_n 0 dX6_lines_1 rfl rfl ?_
  refine aw_get (v := .ref (ad 0)) (mg_o hok) rfl in_X6 0 (by decide) q1739 (Or.inl rfl) rfl dX6_lines_2 ?_
  refine aw_iconst (v := 0) dX6_lines_5 (by decide) ?_
  refine aw_ialdj (j := 0) (mg_0 hok) (vpc (by decide)) (by decide) dX6_lines_6 ?_
  refine aw_imul dX6_lines_7 ?_
  refine aw_iconst (v := 2) dX6_lines_8 (by decide) ?_
  refine aw_aload_n 0 dX6_lines_9 rfl rfl ?_
  refine aw_get (v := .ref (ad 0)) (mg_o hok) rfl in_X6 0 (by decide) q1739 (Or.inl rfl) rfl dX6_lines_10 ?_
  refine aw_iconst (v := 2) dX6_lines_13 (by decide) ?_
  refine aw_ialdj (j := 2) (mg_0 hok) (vpc (by decide)) (by decide) dX6_lines_14 ?_
  refine aw_imul dX6_lines_15 ?_
  refine aw_iadd dX6_lines_16 ?_
  cases hf
  exact aw_iret rfl dX6_lines_17 aP1_rfl (Nat.le_refl _) (Nat.le_refl _)
abbrev mX6_lineCount : aM := (yX6_lineCount, cX6_lineCount, 1, some .int, [])
theorem nX6_lineCount : aNoMH yX6_lineCount 0 := by decide +kernel
def S_X6_lineCount (st : MSt) : Option (Int32 × MSt) :=
  (S_X6_lines st).bind fun q1 =>
  (S_X6_told q1 st).bind fun q2 =>
  some (q2.1, q2.2)
set_option maxHeartbeats 2000000 in
theorem C_X6_lineCount {l : Launch} {G : aG} {ad : Nat → Nat} {h0 : aH} (hok : mOk ad) (hl : l.stackTraces = false) {st : MSt} {r : Int32 × MSt} (hf : S_X6_lineCount st = some r) : aC l G mX6_lineCount (ws_ yX6_lineCount cX6_lineCount 1 (some .int)) 1 0 0 [.ref (ad 13)] (mh ad st h0) (aP1 (some (.int r.1)) (mh ad r.2 h0)) := by
  refine aC_of (M := mX6_lineCount) rfl (by decide) (Nat.le_of_ble_eq_true rfl) hl ?_
  rw [S_X6_lineCount] at hf
  refine aw_eqv (lv2 := [(0, .ref (ad 13))]) rfl rfl rfl rfl ?_
  refine aw_aload_n 0 dX6_lineCount_0 rfl rfl ?_
  refine aw_aload_n 0 dX6_lineCount_1 rfl rfl ?_
  obtain ⟨q1, eq1, hf⟩ := Option.bind_eq_some_iff.mp hf
  refine aw_callV (rest := [.ref (ad 13)]) (C_X6_lines hok hl eq1) (mg_o hok) rfl rfl nX6_lines q1930 q1932 qs70 q137 q1933 dX6_lineCount_2 rfl (by decide) (by decide) (Nat.le_of_ble_eq_true rfl) (Nat.le_refl _) (Nat.le_refl _) (aP1_i ?_) aP1_x
  obtain ⟨q2, eq2, hf⟩ := Option.bind_eq_some_iff.mp hf
  refine aw_callV (rest := []) (C_X6_told hok hl eq2) (mg_o hok) rfl rfl nX6_told q1918 q1920 qs69 q137 q1921 dX6_lineCount_5 rfl (by decide) (by decide) (Nat.le_of_ble_eq_true rfl) (Nat.le_refl _) (Nat.le_refl _) (aP1_i ?_) aP1_x
  cases hf
  exact aw_iret rfl dX6_lineCount_8 aP1_rfl (Nat.le_refl _) (Nat.le_refl _)
abbrev mX6_tellingCount : aM := (yX6_tellingCount, cX6_tellingCount, 1, some .int, [])
theorem nX6_tellingCount : aNoMH yX6_tellingCount 0 := by decide +kernel
def S_X6_tellingCount (n : Nat) (st : MSt) : Option (Int32 × MSt) :=
  (S_X6_tellings n st).bind fun q1 =>
  (S_X6_told q1 st).bind fun q2 =>
  some (q2.1, q2.2)
set_option maxHeartbeats 2000000 in
theorem C_X6_tellingCount {l : Launch} {G : aG} {ad : Nat → Nat} {h0 : aH} (hok : mOk ad) (hl : l.stackTraces = false) {n : Nat} {st : MSt} {r : Int32 × MSt} (hf : S_X6_tellingCount n st = some r) : aC l G mX6_tellingCount (ws_ yX6_tellingCount cX6_tellingCount 1 (some .int)) 2 0 0 [.ref (ad 13)] (mh ad st h0) (aP1 (some (.int r.1)) (mh ad r.2 h0)) := by
  refine aC_of (M := mX6_tellingCount) rfl (by decide) (Nat.le_of_ble_eq_true rfl) hl ?_
  rw [S_X6_tellingCount] at hf
  refine aw_eqv (lv2 := [(0, .ref (ad 13))]) rfl rfl rfl rfl ?_
  refine aw_aload_n 0 dX6_tellingCount_0 rfl rfl ?_
  refine aw_aload_n 0 dX6_tellingCount_1 rfl rfl ?_
  obtain ⟨q1, eq1, hf⟩ := Option.bind_eq_some_iff.mp hf
  refine aw_callV (rest := [.ref (ad 13)]) (C_X6_tellings hok hl eq1) (mg_o hok) rfl rfl nX6_tellings q1872 q1874 qs63 q137 q1875 dX6_tellingCount_2 rfl (by decide) (by decide) (Nat.le_of_ble_eq_true rfl) (Nat.le_refl _) (Nat.le_refl _) (aP1_i ?_) aP1_x
  obtain ⟨q2, eq2, hf⟩ := Option.bind_eq_some_iff.mp hf
  refine aw_callV (rest := []) (C_X6_told hok hl eq2) (mg_o hok) rfl rfl nX6_told q1918 q1920 qs69 q137 q1921 dX6_tellingCount_5 rfl (by decide) (by decide) (Nat.le_of_ble_eq_true rfl) (Nat.le_refl _) (Nat.le_refl _) (aP1_i ?_) aP1_x
  cases hf
  exact aw_iret rfl dX6_tellingCount_8 aP1_rfl (Nat.le_refl _) (Nat.le_refl _)
abbrev mX6_tellingAt : aM := (yX6_tellingAt, cX6_tellingAt, 2, some .int, [])
theorem nX6_tellingAt : aNoMH yX6_tellingAt 1 := by decide +kernel
def S_X6_tellingAt (x1 : Int32) (st : MSt) : Option (Int32 × MSt) :=
  (S_X6_isEdge x1 st).bind fun q1 =>
  (S_X6_goes q1 1 1 st).bind fun q2 =>
  if q2.1 = 0 then
    some (0, q2.2)
  else
    ob ((3 : Int32) + x1) 432 fun j4 =>
    (S_X6_letterOf (q2.2.2.1 0 j4) q2.2).bind fun q6 =>
    some (q6, q2.2)
set_option maxHeartbeats 2000000 in
theorem C_X6_tellingAt {l : Launch} {G : aG} {ad : Nat → Nat} {h0 : aH} (hok : mOk ad) (hl : l.stackTraces = false) {x1 : Int32} {st : MSt} {r : Int32 × MSt} (hf : S_X6_tellingAt x1 st = some r) : aC l G mX6_tellingAt (ws_ yX6_tellingAt cX6_tellingAt 2 (some .int)) 2 0 0 [.ref (ad 13), .int x1] (mh ad st h0) (aP1 (some (.int r.1)) (mh ad r.2 h0)) := by
  refine aC_of (M := mX6_tellingAt) rfl (by decide) (Nat.le_of_ble_eq_true rfl) hl ?_
  rw [S_X6_tellingAt] at hf
  refine aw_eqv (lv2 := [(0, .ref (ad 13)), (1, .int x1)]) rfl rfl rfl rfl ?_
  refine aw_aload_n 0 dX6_tellingAt_0 rfl rfl ?_
  refine aw_aload_n 0 dX6_tellingAt_1 rfl rfl ?_
  refine aw_iload_n 1 dX6_tellingAt_2 rfl rfl ?_
  obtain ⟨q1, eq1, hf⟩ := Option.bind_eq_some_iff.mp hf
  refine aw_callV (rest := [.ref (ad 13)]) (C_X6_isEdge hok hl eq1) (mg_o hok) rfl rfl nX6_isEdge q1845 q1847 qs58 q137 q1848 dX6_tellingAt_3 rfl (by decide) (by decide) (Nat.le_of_ble_eq_true rfl) (Nat.le_refl _) (Nat.le_refl _) (aP1_i ?_) aP1_x
  refine aw_iconst (v := 1) dX6_tellingAt_6 (by decide) ?_
  refine aw_iconst (v := 1) dX6_tellingAt_7 (by decide) ?_
  obtain ⟨q2, eq2, hf⟩ := Option.bind_eq_some_iff.mp hf
  refine aw_callV (rest := []) (C_X6_goes hok hl eq2) (mg_o hok) rfl rfl nX6_goes q1825 q1827 qs55 q137 q1828 dX6_tellingAt_8 rfl (by decide) (by decide) (Nat.le_of_ble_eq_true rfl) (Nat.le_refl _) (Nat.le_refl _) (aP1_i ?_) aP1_x
  refine aw_if_eq 29 dX6_tellingAt_11 (by decide) (fun c3 => ?_) (fun c3 => ?_)
  · have hf := it_t c3 hf
    refine aw_iconst (v := 0) dX6_tellingAt_29 (by decide) ?_
    cases hf
    exact aw_iret rfl dX6_tellingAt_30 aP1_rfl (Nat.le_refl _) (Nat.le_refl _)
  · have hf := it_f c3 hf
    refine aw_aload_n 0 dX6_tellingAt_14 rfl rfl ?_
    refine aw_aload_n 0 dX6_tellingAt_15 rfl rfl ?_
    refine aw_get (v := .ref (ad 0)) (mg_o hok) rfl in_X6 0 (by decide) q1739 (Or.inl rfl) rfl dX6_tellingAt_16 ?_
    refine aw_iconst (v := 3) dX6_tellingAt_19 (by decide) ?_
    refine aw_iload_n 1 dX6_tellingAt_20 rfl rfl ?_
    refine aw_iadd dX6_tellingAt_21 ?_
    obtain ⟨j4, z5, ej4, hf⟩ := ob_s hf
    refine aw_ialdj (mg_0 hok) z5 ej4 dX6_tellingAt_22 ?_
    obtain ⟨q6, eq6, hf⟩ := Option.bind_eq_some_iff.mp hf
    refine aw_callV (rest := []) (C_X6_letterOf hok hl eq6) (mg_o hok) rfl rfl nX6_letterOf q1861 q1863 qs62 q137 q1864 dX6_tellingAt_23 rfl (by decide) (by decide) (Nat.le_of_ble_eq_true rfl) (Nat.le_refl _) (Nat.le_refl _) (aP1_i ?_) aP1_x
    refine aw_goto 30 dX6_tellingAt_26 (by decide) ?_
    cases hf
    exact aw_iret rfl dX6_tellingAt_30 aP1_rfl (Nat.le_refl _) (Nat.le_refl _)
abbrev mX6_isSecond : aM := (yX6_isSecond, cX6_isSecond, 2, some .boolean, [])
theorem nX6_isSecond : aNoMH yX6_isSecond 1 := by decide +kernel
def S_X6_isSecond (x1 : Int32) (st : MSt) : Option (Int32 × MSt) :=
  (S_X6_isEdge x1 st).bind fun q1 =>
  (S_X6_goes q1 1 1 st).bind fun q2 =>
  if q2.1 = 0 then
    some (0, q2.2)
  else
    ob ((3 : Int32) + x1) 432 fun j4 =>
    if (q2.2.2.1 0 j4) ≤ 0 then
      some (0, q2.2)
    else
      ob ((3 : Int32) + x1) 432 fun j7 =>
      if ((q2.2.2.1 0 j7) - (q2.2.2.1 0 j7) / 2 * 2) = 0 then
        some (1, q2.2)
      else
        some (0, q2.2)
set_option maxHeartbeats 2000000 in
theorem C_X6_isSecond {l : Launch} {G : aG} {ad : Nat → Nat} {h0 : aH} (hok : mOk ad) (hl : l.stackTraces = false) {x1 : Int32} {st : MSt} {r : Int32 × MSt} (hf : S_X6_isSecond x1 st = some r) : aC l G mX6_isSecond (ws_ yX6_isSecond cX6_isSecond 2 (some .boolean)) 2 0 0 [.ref (ad 13), .int x1] (mh ad st h0) (aP1 (some (.int r.1)) (mh ad r.2 h0)) := by
  refine aC_of (M := mX6_isSecond) rfl (by decide) (Nat.le_of_ble_eq_true rfl) hl ?_
  rw [S_X6_isSecond] at hf
  refine aw_eqv (lv2 := [(0, .ref (ad 13)), (1, .int x1)]) rfl rfl rfl rfl ?_
  refine aw_aload_n 0 dX6_isSecond_0 rfl rfl ?_
  refine aw_aload_n 0 dX6_isSecond_1 rfl rfl ?_
  refine aw_iload_n 1 dX6_isSecond_2 rfl rfl ?_
  obtain ⟨q1, eq1, hf⟩ := Option.bind_eq_some_iff.mp hf
  refine aw_callV (rest := [.ref (ad 13)]) (C_X6_isEdge hok hl eq1) (mg_o hok) rfl rfl nX6_isEdge q1845 q1847 qs58 q137 q1848 dX6_isSecond_3 rfl (by decide) (by decide) (Nat.le_of_ble_eq_true rfl) (Nat.le_refl _) (Nat.le_refl _) (aP1_i ?_) aP1_x
  refine aw_iconst (v := 1) dX6_isSecond_6 (by decide) ?_
  refine aw_iconst (v := 1) dX6_isSecond_7 (by decide) ?_
  obtain ⟨q2, eq2, hf⟩ := Option.bind_eq_some_iff.mp hf
  refine aw_callV (rest := []) (C_X6_goes hok hl eq2) (mg_o hok) rfl rfl nX6_goes q1825 q1827 qs55 q137 q1828 dX6_isSecond_8 rfl (by decide) (by decide) (Nat.le_of_ble_eq_true rfl) (Nat.le_refl _) (Nat.le_refl _) (aP1_i ?_) aP1_x
  refine aw_if_eq 42 dX6_isSecond_11 (by decide) (fun c3 => ?_) (fun c3 => ?_)
  · have hf := it_t c3 hf
    refine aw_iconst (v := 0) dX6_isSecond_42 (by decide) ?_
    cases hf
    exact aw_zret rfl rfl dX6_isSecond_43 aP1_rfl (Nat.le_refl _) (Nat.le_refl _)
  · have hf := it_f c3 hf
    refine aw_aload_n 0 dX6_isSecond_14 rfl rfl ?_
    refine aw_get (v := .ref (ad 0)) (mg_o hok) rfl in_X6 0 (by decide) q1739 (Or.inl rfl) rfl dX6_isSecond_15 ?_
    refine aw_iconst (v := 3) dX6_isSecond_18 (by decide) ?_
    refine aw_iload_n 1 dX6_isSecond_19 rfl rfl ?_
    refine aw_iadd dX6_isSecond_20 ?_
    obtain ⟨j4, z5, ej4, hf⟩ := ob_s hf
    refine aw_ialdj (mg_0 hok) z5 ej4 dX6_isSecond_21 ?_
    refine aw_if_le 42 dX6_isSecond_22 (by decide) (fun c6 => ?_) (fun c6 => ?_)
    · have hf := it_t c6 hf
      refine aw_iconst (v := 0) dX6_isSecond_42 (by decide) ?_
      cases hf
      exact aw_zret rfl rfl dX6_isSecond_43 aP1_rfl (Nat.le_refl _) (Nat.le_refl _)
    · have hf := it_f c6 hf
      refine aw_aload_n 0 dX6_isSecond_25 rfl rfl ?_
      refine aw_get (v := .ref (ad 0)) (mg_o hok) rfl in_X6 0 (by decide) q1739 (Or.inl rfl) rfl dX6_isSecond_26 ?_
      refine aw_iconst (v := 3) dX6_isSecond_29 (by decide) ?_
      refine aw_iload_n 1 dX6_isSecond_30 rfl rfl ?_
      refine aw_iadd dX6_isSecond_31 ?_
      obtain ⟨j7, z8, ej7, hf⟩ := ob_s hf
      refine aw_ialdj (mg_0 hok) z8 ej7 dX6_isSecond_32 ?_
      refine aw_iconst (v := 2) dX6_isSecond_33 (by decide) ?_
      refine aw_irem dX6_isSecond_34 (by decide) ?_
      refine aw_if_ne 42 dX6_isSecond_35 (by decide) (fun c9 => ?_) (fun c9 => ?_)
      · have hf := it_f c9 hf
        refine aw_iconst (v := 0) dX6_isSecond_42 (by decide) ?_
        cases hf
        exact aw_zret rfl rfl dX6_isSecond_43 aP1_rfl (Nat.le_refl _) (Nat.le_refl _)
      · have hf := it_t c9 hf
        refine aw_iconst (v := 1) dX6_isSecond_38 (by decide) ?_
        refine aw_goto 43 dX6_isSecond_39 (by decide) ?_
        cases hf
        exact aw_zret rfl rfl dX6_isSecond_43 aP1_rfl (Nat.le_refl _) (Nat.le_refl _)
abbrev mX6_isLine : aM := (yX6_isLine, cX6_isLine, 2, some .boolean, [])
theorem nX6_isLine : aNoMH yX6_isLine 1 := by decide +kernel
def S_X6_isLine (x1 : Int32) (st : MSt) : Option (Int32) :=
  (S_X6_lines st).bind fun q1 =>
  (S_X6_in x1 0 (q1 - (1 : Int32))).bind fun q2 =>
  onr .boolean q2 <|
  some q2
set_option maxHeartbeats 2000000 in
theorem C_X6_isLine {l : Launch} {G : aG} {ad : Nat → Nat} {h0 : aH} (hok : mOk ad) (hl : l.stackTraces = false) {x1 : Int32} {st : MSt} {r : Int32} (hf : S_X6_isLine x1 st = some r) : aC l G mX6_isLine (ws_ yX6_isLine cX6_isLine 2 (some .boolean)) 1 0 0 [.ref (ad 13), .int x1] (mh ad st h0) (aP1 (some (.int r)) (mh ad st h0)) := by
  refine aC_of (M := mX6_isLine) rfl (by decide) (Nat.le_of_ble_eq_true rfl) hl ?_
  rw [S_X6_isLine] at hf
  refine aw_eqv (lv2 := [(0, .ref (ad 13)), (1, .int x1)]) rfl rfl rfl rfl ?_
  refine aw_iload_n 1 dX6_isLine_0 rfl rfl ?_
  refine aw_iconst (v := 0) dX6_isLine_1 (by decide) ?_
  refine aw_aload_n 0 dX6_isLine_2 rfl rfl ?_
  obtain ⟨q1, eq1, hf⟩ := Option.bind_eq_some_iff.mp hf
  refine aw_callV (rest := [.int 0, .int x1]) (C_X6_lines hok hl eq1) (mg_o hok) rfl rfl nX6_lines q1930 q1932 qs70 q137 q1933 dX6_isLine_3 rfl (by decide) (by decide) (Nat.le_of_ble_eq_true rfl) (Nat.le_refl _) (Nat.le_refl _) (aP1_i ?_) aP1_x
  refine aw_iconst (v := 1) dX6_isLine_6 (by decide) ?_
  refine aw_isub dX6_isLine_7 ?_
  obtain ⟨q2, eq2, hf⟩ := Option.bind_eq_some_iff.mp hf
  refine aw_callS (rest := []) (C_X6_in hl eq2) nX6_in q1822 q1823 q137 q1824 dX6_isLine_8 rfl (by decide) (by decide) (Nat.le_of_ble_eq_true rfl) (Nat.le_refl _) (Nat.le_refl _) (aP1_i ?_) aP1_x
  obtain ⟨z3, hf⟩ := onr_s hf
  cases hf
  exact aw_zret rfl z3 dX6_isLine_11 aP1_rfl (Nat.le_refl _) (Nat.le_refl _)
abbrev mX6_isPlace : aM := (yX6_isPlace, cX6_isPlace, 3, some .boolean, [])
theorem nX6_isPlace : aNoMH yX6_isPlace 2 := by decide +kernel
def S_X6_isPlace (x1 : Int32) (x2 : Int32) (st : MSt) : Option (Int32) :=
  (S_X6_isLine x1 st).bind fun q1 =>
  if q1 = 0 then
    some 0
  else
    (S_X6_in x2 0 ((st.2.1 0 0) - (1 : Int32))).bind fun q3 =>
    if q3 = 0 then
      some 0
    else
      some 1
set_option maxHeartbeats 2000000 in
theorem C_X6_isPlace {l : Launch} {G : aG} {ad : Nat → Nat} {h0 : aH} (hok : mOk ad) (hl : l.stackTraces = false) {x1 : Int32} {x2 : Int32} {st : MSt} {r : Int32} (hf : S_X6_isPlace x1 x2 st = some r) : aC l G mX6_isPlace (ws_ yX6_isPlace cX6_isPlace 3 (some .boolean)) 2 0 0 [.ref (ad 13), .int x1, .int x2] (mh ad st h0) (aP1 (some (.int r)) (mh ad st h0)) := by
  refine aC_of (M := mX6_isPlace) rfl (by decide) (Nat.le_of_ble_eq_true rfl) hl ?_
  rw [S_X6_isPlace] at hf
  refine aw_eqv (lv2 := [(0, .ref (ad 13)), (1, .int x1), (2, .int x2)]) rfl rfl rfl rfl ?_
  refine aw_aload_n 0 dX6_isPlace_0 rfl rfl ?_
  refine aw_iload_n 1 dX6_isPlace_1 rfl rfl ?_
  obtain ⟨q1, eq1, hf⟩ := Option.bind_eq_some_iff.mp hf
  refine aw_callV (rest := []) (C_X6_isLine hok hl eq1) (mg_o hok) rfl rfl nX6_isLine q1954 q1956 qs72 q137 q1957 dX6_isPlace_2 rfl (by decide) (by decide) (Nat.le_of_ble_eq_true rfl) (Nat.le_refl _) (Nat.le_refl _) (aP1_i ?_) aP1_x
  refine aw_if_eq 28 dX6_isPlace_5 (by decide) (fun c2 => ?_) (fun c2 => ?_)
  · have hf := it_t c2 hf
    refine aw_iconst (v := 0) dX6_isPlace_28 (by decide) ?_
    cases hf
    exact aw_zret rfl rfl dX6_isPlace_29 aP1_rfl (Nat.le_refl _) (Nat.le_refl _)
  · have hf := it_f c2 hf
    refine aw_iload_n 2 dX6_isPlace_8 rfl rfl ?_
    refine aw_iconst (v := 0) dX6_isPlace_9 (by decide) ?_
    refine aw_aload_n 0 dX6_isPlace_10 rfl rfl ?_
    refine aw_get (v := .ref (ad 0)) (mg_o hok) rfl in_X6 0 (by decide) q1739 (Or.inl rfl) rfl dX6_isPlace_11 ?_
    refine aw_iconst (v := 0) dX6_isPlace_14 (by decide) ?_
    refine aw_ialdj (j := 0) (mg_0 hok) (vpc (by decide)) (by decide) dX6_isPlace_15 ?_
    refine aw_iconst (v := 1) dX6_isPlace_16 (by decide) ?_
    refine aw_isub dX6_isPlace_17 ?_
    obtain ⟨q3, eq3, hf⟩ := Option.bind_eq_some_iff.mp hf
    refine aw_callS (rest := []) (C_X6_in hl eq3) nX6_in q1822 q1823 q137 q1824 dX6_isPlace_18 rfl (by decide) (by decide) (Nat.le_of_ble_eq_true rfl) (Nat.le_refl _) (Nat.le_refl _) (aP1_i ?_) aP1_x
    refine aw_if_eq 28 dX6_isPlace_21 (by decide) (fun c4 => ?_) (fun c4 => ?_)
    · have hf := it_t c4 hf
      refine aw_iconst (v := 0) dX6_isPlace_28 (by decide) ?_
      cases hf
      exact aw_zret rfl rfl dX6_isPlace_29 aP1_rfl (Nat.le_refl _) (Nat.le_refl _)
    · have hf := it_f c4 hf
      refine aw_iconst (v := 1) dX6_isPlace_24 (by decide) ?_
      refine aw_goto 29 dX6_isPlace_25 (by decide) ?_
      cases hf
      exact aw_zret rfl rfl dX6_isPlace_29 aP1_rfl (Nat.le_refl _) (Nat.le_refl _)
abbrev mX6_cellOf : aM := (yX6_cellOf, cX6_cellOf, 3, some .int, [])
theorem nX6_cellOf : aNoMH yX6_cellOf 2 := by decide +kernel
def S_X6_cellOf (x1 : Int32) (x2 : Int32) (st : MSt) : Option (Int32 × MSt) :=
  (S_X6_isPlace x1 x2 st).bind fun q1 =>
  (S_X6_goes q1 1 1 st).bind fun q2 =>
  if q2.1 = 0 then
    some (0, q2.2)
  else
    (S_X6_cellAt x1 x2 q2.2).bind fun q4 =>
    some (q4, q2.2)
set_option maxHeartbeats 2000000 in
theorem C_X6_cellOf {l : Launch} {G : aG} {ad : Nat → Nat} {h0 : aH} (hok : mOk ad) (hl : l.stackTraces = false) {x1 : Int32} {x2 : Int32} {st : MSt} {r : Int32 × MSt} (hf : S_X6_cellOf x1 x2 st = some r) : aC l G mX6_cellOf (ws_ yX6_cellOf cX6_cellOf 3 (some .int)) 3 0 0 [.ref (ad 13), .int x1, .int x2] (mh ad st h0) (aP1 (some (.int r.1)) (mh ad r.2 h0)) := by
  refine aC_of (M := mX6_cellOf) rfl (by decide) (Nat.le_of_ble_eq_true rfl) hl ?_
  rw [S_X6_cellOf] at hf
  refine aw_eqv (lv2 := [(0, .ref (ad 13)), (1, .int x1), (2, .int x2)]) rfl rfl rfl rfl ?_
  refine aw_aload_n 0 dX6_cellOf_0 rfl rfl ?_
  refine aw_aload_n 0 dX6_cellOf_1 rfl rfl ?_
  refine aw_iload_n 1 dX6_cellOf_2 rfl rfl ?_
  refine aw_iload_n 2 dX6_cellOf_3 rfl rfl ?_
  obtain ⟨q1, eq1, hf⟩ := Option.bind_eq_some_iff.mp hf
  refine aw_callV (rest := [.ref (ad 13)]) (C_X6_isPlace hok hl eq1) (mg_o hok) rfl rfl nX6_isPlace q1950 q1952 qs71 q137 q1953 dX6_cellOf_4 rfl (by decide) (by decide) (Nat.le_of_ble_eq_true rfl) (Nat.le_refl _) (Nat.le_refl _) (aP1_i ?_) aP1_x
  refine aw_iconst (v := 1) dX6_cellOf_7 (by decide) ?_
  refine aw_iconst (v := 1) dX6_cellOf_8 (by decide) ?_
  obtain ⟨q2, eq2, hf⟩ := Option.bind_eq_some_iff.mp hf
  refine aw_callV (rest := []) (C_X6_goes hok hl eq2) (mg_o hok) rfl rfl nX6_goes q1825 q1827 qs55 q137 q1828 dX6_cellOf_9 rfl (by decide) (by decide) (Nat.le_of_ble_eq_true rfl) (Nat.le_refl _) (Nat.le_refl _) (aP1_i ?_) aP1_x
  refine aw_if_eq 24 dX6_cellOf_12 (by decide) (fun c3 => ?_) (fun c3 => ?_)
  · have hf := it_t c3 hf
    refine aw_iconst (v := 0) dX6_cellOf_24 (by decide) ?_
    cases hf
    exact aw_iret rfl dX6_cellOf_25 aP1_rfl (Nat.le_refl _) (Nat.le_refl _)
  · have hf := it_f c3 hf
    refine aw_aload_n 0 dX6_cellOf_15 rfl rfl ?_
    refine aw_iload_n 1 dX6_cellOf_16 rfl rfl ?_
    refine aw_iload_n 2 dX6_cellOf_17 rfl rfl ?_
    obtain ⟨q4, eq4, hf⟩ := Option.bind_eq_some_iff.mp hf
    refine aw_callV (rest := []) (C_X6_cellAt hok hl eq4) (mg_o hok) rfl rfl nX6_cellAt q1892 q1894 qs67 q137 q1895 dX6_cellOf_18 rfl (by decide) (by decide) (Nat.le_of_ble_eq_true rfl) (Nat.le_refl _) (Nat.le_refl _) (aP1_i ?_) aP1_x
    refine aw_goto 25 dX6_cellOf_21 (by decide) ?_
    cases hf
    exact aw_iret rfl dX6_cellOf_25 aP1_rfl (Nat.le_refl _) (Nat.le_refl _)
abbrev mX6_isCell : aM := (yX6_isCell, cX6_isCell, 2, some .boolean, [])
theorem nX6_isCell : aNoMH yX6_isCell 1 := by decide +kernel
def S_X6_isCell (x1 : Int32) (st : MSt) : Option (Int32) :=
  (S_X6_cells st).bind fun q1 =>
  (S_X6_in x1 0 (q1 - (1 : Int32))).bind fun q2 =>
  onr .boolean q2 <|
  some q2
set_option maxHeartbeats 2000000 in
theorem C_X6_isCell {l : Launch} {G : aG} {ad : Nat → Nat} {h0 : aH} (hok : mOk ad) (hl : l.stackTraces = false) {x1 : Int32} {st : MSt} {r : Int32} (hf : S_X6_isCell x1 st = some r) : aC l G mX6_isCell (ws_ yX6_isCell cX6_isCell 2 (some .boolean)) 1 0 0 [.ref (ad 13), .int x1] (mh ad st h0) (aP1 (some (.int r)) (mh ad st h0)) := by
  refine aC_of (M := mX6_isCell) rfl (by decide) (Nat.le_of_ble_eq_true rfl) hl ?_
  rw [S_X6_isCell] at hf
  refine aw_eqv (lv2 := [(0, .ref (ad 13)), (1, .int x1)]) rfl rfl rfl rfl ?_
  refine aw_iload_n 1 dX6_isCell_0 rfl rfl ?_
  refine aw_iconst (v := 0) dX6_isCell_1 (by decide) ?_
  refine aw_aload_n 0 dX6_isCell_2 rfl rfl ?_
  obtain ⟨q1, eq1, hf⟩ := Option.bind_eq_some_iff.mp hf
  refine aw_callV (rest := [.int 0, .int x1]) (C_X6_cells hok hl eq1) (mg_o hok) rfl rfl nX6_cells q1735 q1737 qs54 q137 q1738 dX6_isCell_3 rfl (by decide) (by decide) (Nat.le_of_ble_eq_true rfl) (Nat.le_refl _) (Nat.le_refl _) (aP1_i ?_) aP1_x
  refine aw_iconst (v := 1) dX6_isCell_6 (by decide) ?_
  refine aw_isub dX6_isCell_7 ?_
  obtain ⟨q2, eq2, hf⟩ := Option.bind_eq_some_iff.mp hf
  refine aw_callS (rest := []) (C_X6_in hl eq2) nX6_in q1822 q1823 q137 q1824 dX6_isCell_8 rfl (by decide) (by decide) (Nat.le_of_ble_eq_true rfl) (Nat.le_refl _) (Nat.le_refl _) (aP1_i ?_) aP1_x
  obtain ⟨z3, hf⟩ := onr_s hf
  cases hf
  exact aw_zret rfl z3 dX6_isCell_11 aP1_rfl (Nat.le_refl _) (Nat.le_refl _)
abbrev mX6_isThing : aM := (yX6_isThing, cX6_isThing, 2, some .boolean, [])
theorem nX6_isThing : aNoMH yX6_isThing 1 := by decide +kernel
def S_X6_isThing (x1 : Int32) (st : MSt) : Option (Int32) :=
  (S_X6_in x1 0 (st.2.1 0 1)).bind fun q1 =>
  onr .boolean q1 <|
  some q1
set_option maxHeartbeats 2000000 in
theorem C_X6_isThing {l : Launch} {G : aG} {ad : Nat → Nat} {h0 : aH} (hok : mOk ad) (hl : l.stackTraces = false) {x1 : Int32} {st : MSt} {r : Int32} (hf : S_X6_isThing x1 st = some r) : aC l G mX6_isThing (ws_ yX6_isThing cX6_isThing 2 (some .boolean)) 1 0 0 [.ref (ad 13), .int x1] (mh ad st h0) (aP1 (some (.int r)) (mh ad st h0)) := by
  refine aC_of (M := mX6_isThing) rfl (by decide) (Nat.le_of_ble_eq_true rfl) hl ?_
  rw [S_X6_isThing] at hf
  refine aw_eqv (lv2 := [(0, .ref (ad 13)), (1, .int x1)]) rfl rfl rfl rfl ?_
  refine aw_iload_n 1 dX6_isThing_0 rfl rfl ?_
  refine aw_iconst (v := 0) dX6_isThing_1 (by decide) ?_
  refine aw_aload_n 0 dX6_isThing_2 rfl rfl ?_
  refine aw_get (v := .ref (ad 0)) (mg_o hok) rfl in_X6 0 (by decide) q1739 (Or.inl rfl) rfl dX6_isThing_3 ?_
  refine aw_iconst (v := 1) dX6_isThing_6 (by decide) ?_
  refine aw_ialdj (j := 1) (mg_0 hok) (vpc (by decide)) (by decide) dX6_isThing_7 ?_
  obtain ⟨q1, eq1, hf⟩ := Option.bind_eq_some_iff.mp hf
  refine aw_callS (rest := []) (C_X6_in hl eq1) nX6_in q1822 q1823 q137 q1824 dX6_isThing_8 rfl (by decide) (by decide) (Nat.le_of_ble_eq_true rfl) (Nat.le_refl _) (Nat.le_refl _) (aP1_i ?_) aP1_x
  obtain ⟨z2, hf⟩ := onr_s hf
  cases hf
  exact aw_zret rfl z2 dX6_isThing_11 aP1_rfl (Nat.le_refl _) (Nat.le_refl _)
abbrev mX6_puts : aM := (yX6_puts, cX6_puts, 4, some .int, [])
theorem nX6_puts : aNoMH yX6_puts 2 := by decide +kernel
def S_X6_puts (x1 : Int32) (x2 : Int32) (st : MSt) : Option (Int32 × MSt) :=
  ob ((23 : Int32) + x1) 432 fun j1 =>
  onm (st.2.1 0 j1) fun v3 =>
  ob ((23 : Int32) + x1) 432 fun j4 =>
  onm (mA st 0 j4 ((1 : Int32) <<< (x2 &&& 31))) fun u6 =>
  some (v3, u6)
set_option maxHeartbeats 2000000 in
theorem C_X6_puts {l : Launch} {G : aG} {ad : Nat → Nat} {h0 : aH} (hok : mOk ad) (hl : l.stackTraces = false) {x1 : Int32} {x2 : Int32} {st : MSt} {r : Int32 × MSt} (hf : S_X6_puts x1 x2 st = some r) : aC l G mX6_puts (ws_ yX6_puts cX6_puts 4 (some .int)) 0 0 0 [.ref (ad 13), .int x1, .int x2] (mh ad st h0) (aP1 (some (.int r.1)) (mh ad r.2 h0)) := by
  refine aC_of (M := mX6_puts) rfl (by decide) (Nat.le_of_ble_eq_true rfl) hl ?_
  rw [S_X6_puts] at hf
  refine aw_eqv (lv2 := [(0, .ref (ad 13)), (1, .int x1), (2, .int x2)]) rfl rfl rfl rfl ?_
  refine aw_aload_n 0 dX6_puts_0 rfl rfl ?_
  refine aw_get (v := .ref (ad 0)) (mg_o hok) rfl in_X6 0 (by decide) q1739 (Or.inl rfl) rfl dX6_puts_1 ?_
  refine aw_bipush (v := 23) dX6_puts_4 (by decide) ?_
  refine aw_iload_n 1 dX6_puts_6 rfl rfl ?_
  refine aw_iadd dX6_puts_7 ?_
  obtain ⟨j1, z2, ej1, hf⟩ := ob_s hf
  refine aw_ialdj (mg_0 hok) z2 ej1 dX6_puts_8 ?_
  refine aw_topi (fun v3 ev3 => ?_)
  have hf := onm_a ev3 hf
  refine aw_istore_n (lv' := [(3, .int v3), (0, .ref (ad 13)), (1, .int x1), (2, .int x2)]) dX6_puts_9 rfl (Nat.le_of_ble_eq_true rfl) rfl ?_
  refine aw_aload_n 1 dX6_puts_10 rfl rfl ?_
  refine aw_get (v := .ref (ad 0)) (mg_o hok) rfl in_X6 0 (by decide) q1739 (Or.inl rfl) rfl dX6_puts_11 ?_
  refine aw_bipush (v := 23) dX6_puts_14 (by decide) ?_
  refine aw_iload_n 2 dX6_puts_16 rfl rfl ?_
  refine aw_iadd dX6_puts_17 ?_
  refine aw_iconst (v := 1) dX6_puts_18 (by decide) ?_
  refine aw_iload_n 3 dX6_puts_19 rfl rfl ?_
  refine aw_ishl dX6_puts_20 ?_
  obtain ⟨j4, z5, ej4, hf⟩ := ob_s hf
  refine aw_iastj (mg_0 hok) z5 ej4 (mu_0 hok) dX6_puts_21 ?_
  refine aw_st (fun u6 eu6 => ?_)
  have hf := onm_a eu6 hf
  refine aw_iload_n 0 dX6_puts_22 rfl rfl ?_
  cases hf
  exact aw_iret rfl dX6_puts_23 aP1_rfl (Nat.le_refl _) (Nat.le_refl _)
abbrev mX6_put : aM := (yX6_put, cX6_put, 3, some .int, [])
theorem nX6_put : aNoMH yX6_put 2 := by decide +kernel
def S_X6_put (n : Nat) (x1 : Int32) (x2 : Int32) (st : MSt) : Option (Int32 × MSt) :=
  (S_X6_isCell x1 st).bind fun q1 =>
  (S_X6_isThing x2 st).bind fun q2 =>
  (S_X6_goes q1 q2 1 st).bind fun q3 =>
  if q3.1 = 0 then
    some (0, q3.2)
  else
    (S_X6_records n q3.2).bind fun q5 =>
    (S_X6_puts x1 x2 q5).bind fun q6 =>
    some (q6.1, q6.2)
set_option maxHeartbeats 2000000 in
theorem C_X6_put {l : Launch} {G : aG} {ad : Nat → Nat} {h0 : aH} (hok : mOk ad) (hl : l.stackTraces = false) {n : Nat} {x1 : Int32} {x2 : Int32} {st : MSt} {r : Int32 × MSt} (hf : S_X6_put n x1 x2 st = some r) : aC l G mX6_put (ws_ yX6_put cX6_put 3 (some .int)) 2 0 0 [.ref (ad 13), .int x1, .int x2] (mh ad st h0) (aP1 (some (.int r.1)) (mh ad r.2 h0)) := by
  refine aC_of (M := mX6_put) rfl (by decide) (Nat.le_of_ble_eq_true rfl) hl ?_
  rw [S_X6_put] at hf
  refine aw_eqv (lv2 := [(0, .ref (ad 13)), (1, .int x1), (2, .int x2)]) rfl rfl rfl rfl ?_
  refine aw_aload_n 0 dX6_put_0 rfl rfl ?_
  refine aw_aload_n 0 dX6_put_1 rfl rfl ?_
  refine aw_iload_n 1 dX6_put_2 rfl rfl ?_
  obtain ⟨q1, eq1, hf⟩ := Option.bind_eq_some_iff.mp hf
  refine aw_callV (rest := [.ref (ad 13)]) (C_X6_isCell hok hl eq1) (mg_o hok) rfl rfl nX6_isCell q1962 q1964 qs73 q137 q1965 dX6_put_3 rfl (by decide) (by decide) (Nat.le_of_ble_eq_true rfl) (Nat.le_refl _) (Nat.le_refl _) (aP1_i ?_) aP1_x
  refine aw_aload_n 0 dX6_put_6 rfl rfl ?_
  refine aw_iload_n 2 dX6_put_7 rfl rfl ?_
  obtain ⟨q2, eq2, hf⟩ := Option.bind_eq_some_iff.mp hf
  refine aw_callV (rest := [.int q1, .ref (ad 13)]) (C_X6_isThing hok hl eq2) (mg_o hok) rfl rfl nX6_isThing q1966 q1968 qs74 q137 q1969 dX6_put_8 rfl (by decide) (by decide) (Nat.le_of_ble_eq_true rfl) (Nat.le_refl _) (Nat.le_refl _) (aP1_i ?_) aP1_x
  refine aw_iconst (v := 1) dX6_put_11 (by decide) ?_
  obtain ⟨q3, eq3, hf⟩ := Option.bind_eq_some_iff.mp hf
  refine aw_callV (rest := []) (C_X6_goes hok hl eq3) (mg_o hok) rfl rfl nX6_goes q1825 q1827 qs55 q137 q1828 dX6_put_12 rfl (by decide) (by decide) (Nat.le_of_ble_eq_true rfl) (Nat.le_refl _) (Nat.le_refl _) (aP1_i ?_) aP1_x
  refine aw_if_ne 20 dX6_put_15 (by decide) (fun c4 => ?_) (fun c4 => ?_)
  · have hf := it_f c4 hf
    refine aw_aload_n 0 dX6_put_20 rfl rfl ?_
    obtain ⟨q5, eq5, hf⟩ := Option.bind_eq_some_iff.mp hf
    refine aw_callV (rest := []) (C_X6_records hok hl eq5) (mg_o hok) rfl rfl nX6_records q1829 q1831 qs56 q137 q1832 dX6_put_21 rfl (by decide) (by decide) (Nat.le_of_ble_eq_true rfl) (Nat.le_refl _) (Nat.le_refl _) (aP1_v ?_) aP1_x
    refine aw_aload_n 0 dX6_put_24 rfl rfl ?_
    refine aw_iload_n 1 dX6_put_25 rfl rfl ?_
    refine aw_iload_n 2 dX6_put_26 rfl rfl ?_
    obtain ⟨q6, eq6, hf⟩ := Option.bind_eq_some_iff.mp hf
    refine aw_callV (rest := []) (C_X6_puts hok hl eq6) (mg_o hok) rfl rfl nX6_puts q1970 q1972 qs75 q137 q1973 dX6_put_27 rfl (by decide) (by decide) (Nat.le_of_ble_eq_true rfl) (Nat.le_refl _) (Nat.le_refl _) (aP1_i ?_) aP1_x
    cases hf
    exact aw_iret rfl dX6_put_30 aP1_rfl (Nat.le_refl _) (Nat.le_refl _)
  · have hf := it_t c4 hf
    refine aw_iconst (v := 0) dX6_put_18 (by decide) ?_
    cases hf
    exact aw_iret rfl dX6_put_19 aP1_rfl (Nat.le_refl _) (Nat.le_refl _)
abbrev mX6_crossOut : aM := (yX6_crossOut, cX6_crossOut, 4, some .int, [])
theorem nX6_crossOut : aNoMH yX6_crossOut 2 := by decide +kernel
def S_X6_crossOut_j58 (n : Nat) (x1 : Int32) (x2 : Int32) (xs0 : Int32) (xs1 : Int32) (xs2 : Int32) (st : MSt) : Option (Int32 × MSt) :=
  (S_X6_goes xs2 xs1 xs0 st).bind fun q6 =>
  if q6.1 = 0 then
    some (0, q6.2)
  else
    (S_X6_records n q6.2).bind fun q8 =>
    ob ((23 : Int32) + x1) 432 fun j9 =>
    ob ((23 : Int32) + x1) 432 fun j11 =>
    onm (mA q8 0 j11 ((q8.2.1 0 j9) &&& (((1 : Int32) <<< (x2 &&& 31)) ^^^ ((-1) : Int32)))) fun u13 =>
    ob ((23 : Int32) + x1) 432 fun j14 =>
    some (u13.2.1 0 j14, u13)
set_option maxHeartbeats 2000000 in
theorem A_X6_crossOut_j58 {l : Launch} {G : aG} {ad : Nat → Nat} {h0 : aH} (hok : mOk ad) (hl : l.stackTraces = false) {r : Int32 × MSt} : ∀ (n : Nat) (x1 : Int32) (x2 : Int32) (xs0 : Int32) (xs1 : Int32) (xs2 : Int32) (st : MSt), S_X6_crossOut_j58 n x1 x2 xs0 xs1 xs2 st = some r → AW l G mX6_crossOut 2 0 0 (aP1 (some (.int r.1)) (mh ad r.2 h0)) 58 [(0, .ref (ad 13)), (1, .int x1), (2, .int x2)] [.int xs0, .int xs1, .int xs2, .ref (ad 13)] (mh ad st h0) 0 0 := by
  intro n x1 x2 xs0 xs1 xs2 st hf
  rw [S_X6_crossOut_j58] at hf
  obtain ⟨q6, eq6, hf⟩ := Option.bind_eq_some_iff.mp hf
  refine aw_callV (rest := []) (C_X6_goes hok hl eq6) (mg_o hok) rfl rfl nX6_goes q1825 q1827 qs55 q137 q1828 dX6_crossOut_58 rfl (by decide) (by decide) (Nat.le_of_ble_eq_true rfl) (Nat.le_refl _) (Nat.le_refl _) (aP1_i ?_) aP1_x
  refine aw_if_ne 66 dX6_crossOut_61 (by decide) (fun c7 => ?_) (fun c7 => ?_)
  · have hf := it_f c7 hf
    refine aw_aload_n 0 dX6_crossOut_66 rfl rfl ?_
    obtain ⟨q8, eq8, hf⟩ := Option.bind_eq_some_iff.mp hf
    refine aw_callV (rest := []) (C_X6_records hok hl eq8) (mg_o hok) rfl rfl nX6_records q1829 q1831 qs56 q137 q1832 dX6_crossOut_67 rfl (by decide) (by decide) (Nat.le_of_ble_eq_true rfl) (Nat.le_refl _) (Nat.le_refl _) (aP1_v ?_) aP1_x
    refine aw_aload_n 0 dX6_crossOut_70 rfl rfl ?_
    refine aw_get (v := .ref (ad 0)) (mg_o hok) rfl in_X6 0 (by decide) q1739 (Or.inl rfl) rfl dX6_crossOut_71 ?_
    refine aw_bipush (v := 23) dX6_crossOut_74 (by decide) ?_
    refine aw_iload_n 1 dX6_crossOut_76 rfl rfl ?_
    refine aw_iadd dX6_crossOut_77 ?_
    refine aw_dup2_11 dX6_crossOut_78 rfl rfl ?_
    obtain ⟨j9, z10, ej9, hf⟩ := ob_s hf
    refine aw_ialdj (mg_0 hok) z10 ej9 dX6_crossOut_79 ?_
    refine aw_iconst (v := 1) dX6_crossOut_80 (by decide) ?_
    refine aw_iload_n 2 dX6_crossOut_81 rfl rfl ?_
    refine aw_ishl dX6_crossOut_82 ?_
    refine aw_iconst (v := (-1)) dX6_crossOut_83 (by decide) ?_
    refine aw_ixor dX6_crossOut_84 ?_
    refine aw_iand dX6_crossOut_85 ?_
    obtain ⟨j11, z12, ej11, hf⟩ := ob_s hf
    refine aw_iastj (mg_0 hok) z12 ej11 (mu_0 hok) dX6_crossOut_86 ?_
    refine aw_st (fun u13 eu13 => ?_)
    have hf := onm_a eu13 hf
    refine aw_aload_n 0 dX6_crossOut_87 rfl rfl ?_
    refine aw_get (v := .ref (ad 0)) (mg_o hok) rfl in_X6 0 (by decide) q1739 (Or.inl rfl) rfl dX6_crossOut_88 ?_
    refine aw_bipush (v := 23) dX6_crossOut_91 (by decide) ?_
    refine aw_iload_n 1 dX6_crossOut_93 rfl rfl ?_
    refine aw_iadd dX6_crossOut_94 ?_
    obtain ⟨j14, z15, ej14, hf⟩ := ob_s hf
    refine aw_ialdj (mg_0 hok) z15 ej14 dX6_crossOut_95 ?_
    cases hf
    exact aw_iret rfl dX6_crossOut_96 aP1_rfl (Nat.le_refl _) (Nat.le_refl _)
  · have hf := it_t c7 hf
    refine aw_iconst (v := 0) dX6_crossOut_64 (by decide) ?_
    cases hf
    exact aw_iret rfl dX6_crossOut_65 aP1_rfl (Nat.le_refl _) (Nat.le_refl _)
def S_X6_crossOut_j21 (n : Nat) (x1 : Int32) (x2 : Int32) (xs0 : Int32) (st : MSt) : Option (Int32 × MSt) :=
  (S_X6_isCell x1 st).bind fun q3 =>
  (S_X6_isThing x2 st).bind fun q4 =>
  if xs0 = 0 then
    S_X6_crossOut_j58 n x1 x2 0 q4 q3 st
  else
    ob ((23 : Int32) + x1) 432 fun j6 =>
    (S_X6_has (st.2.1 0 j6) x2).bind fun q8 =>
    if q8 = 0 then
      S_X6_crossOut_j58 n x1 x2 0 q4 q3 st
    else
      S_X6_crossOut_j58 n x1 x2 1 q4 q3 st
set_option maxHeartbeats 2000000 in
theorem A_X6_crossOut_j21 {l : Launch} {G : aG} {ad : Nat → Nat} {h0 : aH} (hok : mOk ad) (hl : l.stackTraces = false) {r : Int32 × MSt} : ∀ (n : Nat) (x1 : Int32) (x2 : Int32) (xs0 : Int32) (st : MSt), S_X6_crossOut_j21 n x1 x2 xs0 st = some r → AW l G mX6_crossOut 2 0 0 (aP1 (some (.int r.1)) (mh ad r.2 h0)) 21 [(0, .ref (ad 13)), (1, .int x1), (2, .int x2)] [.int xs0] (mh ad st h0) 0 0 := by
  intro n x1 x2 xs0 st hf
  rw [S_X6_crossOut_j21] at hf
  refine aw_istore_n (lv' := [(3, .int xs0), (0, .ref (ad 13)), (1, .int x1), (2, .int x2)]) dX6_crossOut_21 rfl (Nat.le_of_ble_eq_true rfl) rfl ?_
  refine aw_aload_n 1 dX6_crossOut_22 rfl rfl ?_
  refine aw_aload_n 1 dX6_crossOut_23 rfl rfl ?_
  refine aw_iload_n 2 dX6_crossOut_24 rfl rfl ?_
  obtain ⟨q3, eq3, hf⟩ := Option.bind_eq_some_iff.mp hf
  refine aw_callV (rest := [.ref (ad 13)]) (C_X6_isCell hok hl eq3) (mg_o hok) rfl rfl nX6_isCell q1962 q1964 qs73 q137 q1965 dX6_crossOut_25 rfl (by decide) (by decide) (Nat.le_of_ble_eq_true rfl) (Nat.le_refl _) (Nat.le_refl _) (aP1_i ?_) aP1_x
  refine aw_aload_n 1 dX6_crossOut_28 rfl rfl ?_
  refine aw_iload_n 3 dX6_crossOut_29 rfl rfl ?_
  obtain ⟨q4, eq4, hf⟩ := Option.bind_eq_some_iff.mp hf
  refine aw_callV (rest := [.int q3, .ref (ad 13)]) (C_X6_isThing hok hl eq4) (mg_o hok) rfl rfl nX6_isThing q1966 q1968 qs74 q137 q1969 dX6_crossOut_30 rfl (by decide) (by decide) (Nat.le_of_ble_eq_true rfl) (Nat.le_refl _) (Nat.le_refl _) (aP1_i ?_) aP1_x
  refine aw_iload_n 0 dX6_crossOut_33 rfl rfl ?_
  refine aw_if_eq 57 dX6_crossOut_34 (by decide) (fun c5 => ?_) (fun c5 => ?_)
  · have hf := it_t c5 hf
    refine aw_iconst (v := 0) dX6_crossOut_57 (by decide) ?_
    refine aw_sub [1, 2, 3] rfl ?_
    exact A_X6_crossOut_j58 hok hl n x1 x2 0 q4 q3 st hf
  · have hf := it_f c5 hf
    refine aw_aload_n 1 dX6_crossOut_37 rfl rfl ?_
    refine aw_get (v := .ref (ad 0)) (mg_o hok) rfl in_X6 0 (by decide) q1739 (Or.inl rfl) rfl dX6_crossOut_38 ?_
    refine aw_bipush (v := 23) dX6_crossOut_41 (by decide) ?_
    refine aw_iload_n 2 dX6_crossOut_43 rfl rfl ?_
    refine aw_iadd dX6_crossOut_44 ?_
    obtain ⟨j6, z7, ej6, hf⟩ := ob_s hf
    refine aw_ialdj (mg_0 hok) z7 ej6 dX6_crossOut_45 ?_
    refine aw_iload_n 3 dX6_crossOut_46 rfl rfl ?_
    obtain ⟨q8, eq8, hf⟩ := Option.bind_eq_some_iff.mp hf
    refine aw_callS (rest := [.int q4, .int q3, .ref (ad 13)]) (C_X6_has hl eq8) nX6_has q1903 q1904 q137 q1905 dX6_crossOut_47 rfl (by decide) (by decide) (Nat.le_of_ble_eq_true rfl) (Nat.le_refl _) (Nat.le_refl _) (aP1_i ?_) aP1_x
    refine aw_if_eq 57 dX6_crossOut_50 (by decide) (fun c9 => ?_) (fun c9 => ?_)
    · have hf := it_t c9 hf
      refine aw_iconst (v := 0) dX6_crossOut_57 (by decide) ?_
      refine aw_sub [1, 2, 3] rfl ?_
      exact A_X6_crossOut_j58 hok hl n x1 x2 0 q4 q3 st hf
    · have hf := it_f c9 hf
      refine aw_iconst (v := 1) dX6_crossOut_53 (by decide) ?_
      refine aw_goto 58 dX6_crossOut_54 (by decide) ?_
      refine aw_sub [1, 2, 3] rfl ?_
      exact A_X6_crossOut_j58 hok hl n x1 x2 1 q4 q3 st hf
def S_X6_crossOut (n : Nat) (x1 : Int32) (x2 : Int32) (st : MSt) : Option (Int32 × MSt) :=
  (S_X6_isCell x1 st).bind fun q1 =>
  if q1 = 0 then
    S_X6_crossOut_j21 n x1 x2 0 st
  else
    (S_X6_isThing x2 st).bind fun q10 =>
    if q10 = 0 then
      S_X6_crossOut_j21 n x1 x2 0 st
    else
      S_X6_crossOut_j21 n x1 x2 1 st
set_option maxHeartbeats 2000000 in
theorem C_X6_crossOut {l : Launch} {G : aG} {ad : Nat → Nat} {h0 : aH} (hok : mOk ad) (hl : l.stackTraces = false) {n : Nat} {x1 : Int32} {x2 : Int32} {st : MSt} {r : Int32 × MSt} (hf : S_X6_crossOut n x1 x2 st = some r) : aC l G mX6_crossOut (ws_ yX6_crossOut cX6_crossOut 4 (some .int)) 2 0 0 [.ref (ad 13), .int x1, .int x2] (mh ad st h0) (aP1 (some (.int r.1)) (mh ad r.2 h0)) := by
  refine aC_of (M := mX6_crossOut) rfl (by decide) (Nat.le_of_ble_eq_true rfl) hl ?_
  rw [S_X6_crossOut] at hf
  refine aw_eqv (lv2 := [(0, .ref (ad 13)), (1, .int x1), (2, .int x2)]) rfl rfl rfl rfl ?_
  refine aw_aload_n 0 dX6_crossOut_0 rfl rfl ?_
  refine aw_iload_n 1 dX6_crossOut_1 rfl rfl ?_
  obtain ⟨q1, eq1, hf⟩ := Option.bind_eq_some_iff.mp hf
  refine aw_callV (rest := []) (C_X6_isCell hok hl eq1) (mg_o hok) rfl rfl nX6_isCell q1962 q1964 qs73 q137 q1965 dX6_crossOut_2 rfl (by decide) (by decide) (Nat.le_of_ble_eq_true rfl) (Nat.le_refl _) (Nat.le_refl _) (aP1_i ?_) aP1_x
  refine aw_if_eq 20 dX6_crossOut_5 (by decide) (fun c2 => ?_) (fun c2 => ?_)
  · have hf := it_t c2 hf
    refine aw_iconst (v := 0) dX6_crossOut_20 (by decide) ?_
    exact A_X6_crossOut_j21 hok hl n x1 x2 0 st hf
  · have hf := it_f c2 hf
    refine aw_aload_n 0 dX6_crossOut_8 rfl rfl ?_
    refine aw_iload_n 2 dX6_crossOut_9 rfl rfl ?_
    obtain ⟨q10, eq10, hf⟩ := Option.bind_eq_some_iff.mp hf
    refine aw_callV (rest := []) (C_X6_isThing hok hl eq10) (mg_o hok) rfl rfl nX6_isThing q1966 q1968 qs74 q137 q1969 dX6_crossOut_10 rfl (by decide) (by decide) (Nat.le_of_ble_eq_true rfl) (Nat.le_refl _) (Nat.le_refl _) (aP1_i ?_) aP1_x
    refine aw_if_eq 20 dX6_crossOut_13 (by decide) (fun c11 => ?_) (fun c11 => ?_)
    · have hf := it_t c11 hf
      refine aw_iconst (v := 0) dX6_crossOut_20 (by decide) ?_
      exact A_X6_crossOut_j21 hok hl n x1 x2 0 st hf
    · have hf := it_f c11 hf
      refine aw_iconst (v := 1) dX6_crossOut_16 (by decide) ?_
      refine aw_goto 21 dX6_crossOut_17 (by decide) ?_
      exact A_X6_crossOut_j21 hok hl n x1 x2 1 st hf
abbrev mX6_clearCells : aM := (yX6_clearCells, cX6_clearCells, 3, some .int, [])
theorem nX6_clearCells : aNoMH yX6_clearCells 0 := by decide +kernel
def S_X6_clearCells_c13 : Nat → Int32 → Int32 → MSt → Option (Int32 × MSt)
  | 0, _, _, _ => none
  | n + 1, x1, x2, st =>
    (S_X6_cells st).bind fun q3 =>
    if q3 ≤ x2 then
      some (x1, st)
    else
      ob ((23 : Int32) + x2) 432 fun j5 =>
      (S_X6_all st).bind fun q7 =>
      if (st.2.1 0 j5) = q7 then
        (S_X6_flag 0).bind fun q9 =>
        onm (x1 + q9) fun v10 =>
        (S_X6_all st).bind fun q11 =>
        ob ((23 : Int32) + x2) 432 fun j12 =>
        onm (mA st 0 j12 q11) fun u14 =>
        S_X6_clearCells_c13 n v10 (x2 + 1) u14
      else
        (S_X6_flag 1).bind fun q15 =>
        onm (x1 + q15) fun v16 =>
        (S_X6_all st).bind fun q17 =>
        ob ((23 : Int32) + x2) 432 fun j18 =>
        onm (mA st 0 j18 q17) fun u20 =>
        S_X6_clearCells_c13 n v16 (x2 + 1) u20
set_option maxHeartbeats 2000000 in
theorem A_X6_clearCells_c13 {l : Launch} {G : aG} {ad : Nat → Nat} {h0 : aH} (hok : mOk ad) (hl : l.stackTraces = false) {r : Int32 × MSt} : ∀ (n : Nat) (x1 : Int32) (x2 : Int32) (st : MSt), S_X6_clearCells_c13 n x1 x2 st = some r → AW l G mX6_clearCells 2 0 0 (aP1 (some (.int r.1)) (mh ad r.2 h0)) 13 [(0, .ref (ad 13)), (1, .int x1), (2, .int x2)] [] (mh ad st h0) 0 0 := by
  intro n
  induction n with
  | zero =>
    intro x1 x2 st hf
    rw [S_X6_clearCells_c13] at hf
    cases hf
  | succ n ih =>
    intro x1 x2 st hf
    rw [S_X6_clearCells_c13] at hf
    refine aw_iload_n 2 dX6_clearCells_13 rfl rfl ?_
    refine aw_aload_n 0 dX6_clearCells_14 rfl rfl ?_
    obtain ⟨q3, eq3, hf⟩ := Option.bind_eq_some_iff.mp hf
    refine aw_callV (rest := [.int x2]) (C_X6_cells hok hl eq3) (mg_o hok) rfl rfl nX6_cells q1735 q1737 qs54 q137 q1738 dX6_clearCells_15 rfl (by decide) (by decide) (Nat.le_of_ble_eq_true rfl) (Nat.le_refl _) (Nat.le_refl _) (aP1_i ?_) aP1_x
    refine aw_icmp_ge 67 dX6_clearCells_18 (by decide) (fun c4 => ?_) (fun c4 => ?_)
    · have hf := it_t c4 hf
      refine aw_iload_n 1 dX6_clearCells_67 rfl rfl ?_
      cases hf
      exact aw_iret rfl dX6_clearCells_68 aP1_rfl (Nat.le_refl _) (Nat.le_refl _)
    · have hf := it_f c4 hf
      refine aw_iload_n 1 dX6_clearCells_21 rfl rfl ?_
      refine aw_aload_n 0 dX6_clearCells_22 rfl rfl ?_
      refine aw_get (v := .ref (ad 0)) (mg_o hok) rfl in_X6 0 (by decide) q1739 (Or.inl rfl) rfl dX6_clearCells_23 ?_
      refine aw_bipush (v := 23) dX6_clearCells_26 (by decide) ?_
      refine aw_iload_n 2 dX6_clearCells_28 rfl rfl ?_
      refine aw_iadd dX6_clearCells_29 ?_
      obtain ⟨j5, z6, ej5, hf⟩ := ob_s hf
      refine aw_ialdj (mg_0 hok) z6 ej5 dX6_clearCells_30 ?_
      refine aw_aload_n 0 dX6_clearCells_31 rfl rfl ?_
      obtain ⟨q7, eq7, hf⟩ := Option.bind_eq_some_iff.mp hf
      refine aw_callV (rest := [.int (st.2.1 0 j5), .int x1]) (C_X6_all hok hl eq7) (mg_o hok) rfl rfl nX6_all q1731 q1733 qs53 q137 q1734 dX6_clearCells_32 rfl (by decide) (by decide) (Nat.le_of_ble_eq_true rfl) (Nat.le_refl _) (Nat.le_refl _) (aP1_i ?_) aP1_x
      refine aw_icmp_eq 42 dX6_clearCells_35 (by decide) (fun c8 => ?_) (fun c8 => ?_)
      · have hf := it_t c8 hf
        refine aw_iconst (v := 0) dX6_clearCells_42 (by decide) ?_
        obtain ⟨q9, eq9, hf⟩ := Option.bind_eq_some_iff.mp hf
        refine aw_callS (rest := [.int x1]) (C_X6_flag hl eq9) nX6_flag q1865 q1866 q137 q1867 dX6_clearCells_43 rfl (by decide) (by decide) (Nat.le_of_ble_eq_true rfl) (Nat.le_refl _) (Nat.le_refl _) (aP1_i ?_) aP1_x
        refine aw_iadd dX6_clearCells_46 ?_
        refine aw_topi (fun v10 ev10 => ?_)
        have hf := onm_a ev10 hf
        refine aw_istore_n (lv' := [(1, .int v10), (0, .ref (ad 13)), (2, .int x2)]) dX6_clearCells_47 rfl (Nat.le_of_ble_eq_true rfl) rfl ?_
        refine aw_aload_n 1 dX6_clearCells_48 rfl rfl ?_
        refine aw_get (v := .ref (ad 0)) (mg_o hok) rfl in_X6 0 (by decide) q1739 (Or.inl rfl) rfl dX6_clearCells_49 ?_
        refine aw_bipush (v := 23) dX6_clearCells_52 (by decide) ?_
        refine aw_iload_n 2 dX6_clearCells_54 rfl rfl ?_
        refine aw_iadd dX6_clearCells_55 ?_
        refine aw_aload_n 1 dX6_clearCells_56 rfl rfl ?_
        obtain ⟨q11, eq11, hf⟩ := Option.bind_eq_some_iff.mp hf
        refine aw_callV (rest := [.int ((23 : Int32) + x2), .ref (ad 0)]) (C_X6_all hok hl eq11) (mg_o hok) rfl rfl nX6_all q1731 q1733 qs53 q137 q1734 dX6_clearCells_57 rfl (by decide) (by decide) (Nat.le_of_ble_eq_true rfl) (Nat.le_refl _) (Nat.le_refl _) (aP1_i ?_) aP1_x
        obtain ⟨j12, z13, ej12, hf⟩ := ob_s hf
        refine aw_iastj (mg_0 hok) z13 ej12 (mu_0 hok) dX6_clearCells_60 ?_
        refine aw_st (fun u14 eu14 => ?_)
        have hf := onm_a eu14 hf
        refine aw_iinc 2 (v := x2 + 1) (lv' := [(2, .int (x2 + 1)), (1, .int v10), (0, .ref (ad 13))]) dX6_clearCells_61 rfl rfl (Nat.le_of_ble_eq_true rfl) rfl ?_
        refine aw_goto 13 dX6_clearCells_64 (by decide) ?_
        refine aw_sub [2, 1, 0] rfl ?_
        exact ih v10 (x2 + 1) u14 hf
      · have hf := it_f c8 hf
        refine aw_iconst (v := 1) dX6_clearCells_38 (by decide) ?_
        refine aw_goto 43 dX6_clearCells_39 (by decide) ?_
        obtain ⟨q15, eq15, hf⟩ := Option.bind_eq_some_iff.mp hf
        refine aw_callS (rest := [.int x1]) (C_X6_flag hl eq15) nX6_flag q1865 q1866 q137 q1867 dX6_clearCells_43 rfl (by decide) (by decide) (Nat.le_of_ble_eq_true rfl) (Nat.le_refl _) (Nat.le_refl _) (aP1_i ?_) aP1_x
        refine aw_iadd dX6_clearCells_46 ?_
        refine aw_topi (fun v16 ev16 => ?_)
        have hf := onm_a ev16 hf
        refine aw_istore_n (lv' := [(1, .int v16), (0, .ref (ad 13)), (2, .int x2)]) dX6_clearCells_47 rfl (Nat.le_of_ble_eq_true rfl) rfl ?_
        refine aw_aload_n 1 dX6_clearCells_48 rfl rfl ?_
        refine aw_get (v := .ref (ad 0)) (mg_o hok) rfl in_X6 0 (by decide) q1739 (Or.inl rfl) rfl dX6_clearCells_49 ?_
        refine aw_bipush (v := 23) dX6_clearCells_52 (by decide) ?_
        refine aw_iload_n 2 dX6_clearCells_54 rfl rfl ?_
        refine aw_iadd dX6_clearCells_55 ?_
        refine aw_aload_n 1 dX6_clearCells_56 rfl rfl ?_
        obtain ⟨q17, eq17, hf⟩ := Option.bind_eq_some_iff.mp hf
        refine aw_callV (rest := [.int ((23 : Int32) + x2), .ref (ad 0)]) (C_X6_all hok hl eq17) (mg_o hok) rfl rfl nX6_all q1731 q1733 qs53 q137 q1734 dX6_clearCells_57 rfl (by decide) (by decide) (Nat.le_of_ble_eq_true rfl) (Nat.le_refl _) (Nat.le_refl _) (aP1_i ?_) aP1_x
        obtain ⟨j18, z19, ej18, hf⟩ := ob_s hf
        refine aw_iastj (mg_0 hok) z19 ej18 (mu_0 hok) dX6_clearCells_60 ?_
        refine aw_st (fun u20 eu20 => ?_)
        have hf := onm_a eu20 hf
        refine aw_iinc 2 (v := x2 + 1) (lv' := [(2, .int (x2 + 1)), (1, .int v16), (0, .ref (ad 13))]) dX6_clearCells_61 rfl rfl (Nat.le_of_ble_eq_true rfl) rfl ?_
        refine aw_goto 13 dX6_clearCells_64 (by decide) ?_
        refine aw_sub [2, 1, 0] rfl ?_
        exact ih v16 (x2 + 1) u20 hf
def S_X6_clearCells (n : Nat) (st : MSt) : Option (Int32 × MSt) :=
  onm (mI st 2 0) fun u1 =>
  (S_X6_records n u1).bind fun q2 =>
  S_X6_clearCells_c13 n 0 0 q2
set_option maxHeartbeats 2000000 in
theorem C_X6_clearCells {l : Launch} {G : aG} {ad : Nat → Nat} {h0 : aH} (hok : mOk ad) (hl : l.stackTraces = false) {n : Nat} {st : MSt} {r : Int32 × MSt} (hf : S_X6_clearCells n st = some r) : aC l G mX6_clearCells (ws_ yX6_clearCells cX6_clearCells 3 (some .int)) 2 0 0 [.ref (ad 13)] (mh ad st h0) (aP1 (some (.int r.1)) (mh ad r.2 h0)) := by
  refine aC_of (M := mX6_clearCells) rfl (by decide) (Nat.le_of_ble_eq_true rfl) hl ?_
  rw [S_X6_clearCells] at hf
  refine aw_eqv (lv2 := [(0, .ref (ad 13))]) rfl rfl rfl rfl ?_
  refine aw_aload_n 0 dX6_clearCells_0 rfl rfl ?_
  refine aw_iconst (v := 0) dX6_clearCells_1 (by decide) ?_
  refine aw_put (mg_o hok) rfl in_X6 tyX6_ok nmX6 5 (by decide) q1744 (Or.inl rfl) rfl rfl rfl (Nat.le_of_ble_eq_true rfl) (mu_i2 hok) dX6_clearCells_2 ?_
  refine aw_st (fun u1 eu1 => ?_)
  have hf := onm_a eu1 hf
  refine aw_aload_n 0 dX6_clearCells_5 rfl rfl ?_
  obtain ⟨q2, eq2, hf⟩ := Option.bind_eq_some_iff.mp hf
  refine aw_callV (rest := []) (C_X6_records hok hl eq2) (mg_o hok) rfl rfl nX6_records q1829 q1831 qs56 q137 q1832 dX6_clearCells_6 rfl (by decide) (by decide) (Nat.le_of_ble_eq_true rfl) (Nat.le_refl _) (Nat.le_refl _) (aP1_v ?_) aP1_x
  refine aw_iconst (v := 0) dX6_clearCells_9 (by decide) ?_
  refine aw_istore_n (lv' := [(1, .int 0), (0, .ref (ad 13))]) dX6_clearCells_10 rfl (Nat.le_of_ble_eq_true rfl) rfl ?_
  refine aw_iconst (v := 0) dX6_clearCells_11 (by decide) ?_
  refine aw_istore_n (lv' := [(2, .int 0), (1, .int 0), (0, .ref (ad 13))]) dX6_clearCells_12 rfl (Nat.le_of_ble_eq_true rfl) rfl ?_
  refine aw_sub [2, 1, 0] rfl ?_
  exact A_X6_clearCells_c13 hok hl n 0 0 q2 hf
abbrev mX6_thingsOf : aM := (yX6_thingsOf, cX6_thingsOf, 2, some .int, [])
theorem nX6_thingsOf : aNoMH yX6_thingsOf 1 := by decide +kernel
def S_X6_thingsOf (x1 : Int32) (st : MSt) : Option (Int32 × MSt) :=
  (S_X6_isCell x1 st).bind fun q1 =>
  (S_X6_goes q1 1 1 st).bind fun q2 =>
  if q2.1 = 0 then
    some (0, q2.2)
  else
    ob ((23 : Int32) + x1) 432 fun j4 =>
    some (q2.2.2.1 0 j4, q2.2)
set_option maxHeartbeats 2000000 in
theorem C_X6_thingsOf {l : Launch} {G : aG} {ad : Nat → Nat} {h0 : aH} (hok : mOk ad) (hl : l.stackTraces = false) {x1 : Int32} {st : MSt} {r : Int32 × MSt} (hf : S_X6_thingsOf x1 st = some r) : aC l G mX6_thingsOf (ws_ yX6_thingsOf cX6_thingsOf 2 (some .int)) 2 0 0 [.ref (ad 13), .int x1] (mh ad st h0) (aP1 (some (.int r.1)) (mh ad r.2 h0)) := by
  refine aC_of (M := mX6_thingsOf) rfl (by decide) (Nat.le_of_ble_eq_true rfl) hl ?_
  rw [S_X6_thingsOf] at hf
  refine aw_eqv (lv2 := [(0, .ref (ad 13)), (1, .int x1)]) rfl rfl rfl rfl ?_
  refine aw_aload_n 0 dX6_thingsOf_0 rfl rfl ?_
  refine aw_aload_n 0 dX6_thingsOf_1 rfl rfl ?_
  refine aw_iload_n 1 dX6_thingsOf_2 rfl rfl ?_
  obtain ⟨q1, eq1, hf⟩ := Option.bind_eq_some_iff.mp hf
  refine aw_callV (rest := [.ref (ad 13)]) (C_X6_isCell hok hl eq1) (mg_o hok) rfl rfl nX6_isCell q1962 q1964 qs73 q137 q1965 dX6_thingsOf_3 rfl (by decide) (by decide) (Nat.le_of_ble_eq_true rfl) (Nat.le_refl _) (Nat.le_refl _) (aP1_i ?_) aP1_x
  refine aw_iconst (v := 1) dX6_thingsOf_6 (by decide) ?_
  refine aw_iconst (v := 1) dX6_thingsOf_7 (by decide) ?_
  obtain ⟨q2, eq2, hf⟩ := Option.bind_eq_some_iff.mp hf
  refine aw_callV (rest := []) (C_X6_goes hok hl eq2) (mg_o hok) rfl rfl nX6_goes q1825 q1827 qs55 q137 q1828 dX6_thingsOf_8 rfl (by decide) (by decide) (Nat.le_of_ble_eq_true rfl) (Nat.le_refl _) (Nat.le_refl _) (aP1_i ?_) aP1_x
  refine aw_if_eq 26 dX6_thingsOf_11 (by decide) (fun c3 => ?_) (fun c3 => ?_)
  · have hf := it_t c3 hf
    refine aw_iconst (v := 0) dX6_thingsOf_26 (by decide) ?_
    cases hf
    exact aw_iret rfl dX6_thingsOf_27 aP1_rfl (Nat.le_refl _) (Nat.le_refl _)
  · have hf := it_f c3 hf
    refine aw_aload_n 0 dX6_thingsOf_14 rfl rfl ?_
    refine aw_get (v := .ref (ad 0)) (mg_o hok) rfl in_X6 0 (by decide) q1739 (Or.inl rfl) rfl dX6_thingsOf_15 ?_
    refine aw_bipush (v := 23) dX6_thingsOf_18 (by decide) ?_
    refine aw_iload_n 1 dX6_thingsOf_20 rfl rfl ?_
    refine aw_iadd dX6_thingsOf_21 ?_
    obtain ⟨j4, z5, ej4, hf⟩ := ob_s hf
    refine aw_ialdj (mg_0 hok) z5 ej4 dX6_thingsOf_22 ?_
    refine aw_goto 27 dX6_thingsOf_23 (by decide) ?_
    cases hf
    exact aw_iret rfl dX6_thingsOf_27 aP1_rfl (Nat.le_refl _) (Nat.le_refl _)
abbrev mX6_cellsWith : aM := (yX6_cellsWith, cX6_cellsWith, 6, some .long, [])
theorem nX6_cellsWith : aNoMH yX6_cellsWith 1 := by decide +kernel
def S_X6_cellsWith_c18 : Nat → Int32 → Int64 → Int32 → Int32 → MSt → Option (Int64 × MSt)
  | 0, _, _, _, _, _ => none
  | n + 1, x1, x2, x4, x5, st =>
    (S_X6_cells st).bind fun q3 =>
    if q3 ≤ x5 then
      some (x2, st)
    else
      if x4 = 0 then
        some (x2, st)
      else
        ob ((23 : Int32) + x5) 432 fun j6 =>
        (S_X6_has (st.2.1 0 j6) x1).bind fun q8 =>
        if q8 = 0 then
          onm (x2 ||| (0 : Int64)) fun v10 =>
          S_X6_cellsWith_c18 n x1 v10 x4 (x5 + 1) st
        else
          onm (x2 ||| ((1 : Int64) <<< (x5.toInt64 &&& 63))) fun v11 =>
          S_X6_cellsWith_c18 n x1 v11 x4 (x5 + 1) st
set_option maxHeartbeats 2000000 in
theorem A_X6_cellsWith_c18 {l : Launch} {G : aG} {ad : Nat → Nat} {h0 : aH} (hok : mOk ad) (hl : l.stackTraces = false) {r : Int64 × MSt} : ∀ (n : Nat) (x1 : Int32) (x2 : Int64) (x4 : Int32) (x5 : Int32) (st : MSt), S_X6_cellsWith_c18 n x1 x2 x4 x5 st = some r → AW l G mX6_cellsWith 2 0 0 (aP1 (some (.long r.1)) (mh ad r.2 h0)) 18 [(0, .ref (ad 13)), (1, .int x1), (2, .long x2), (4, .int x4), (5, .int x5)] [] (mh ad st h0) 0 0 := by
  intro n
  induction n with
  | zero =>
    intro x1 x2 x4 x5 st hf
    rw [S_X6_cellsWith_c18] at hf
    cases hf
  | succ n ih =>
    intro x1 x2 x4 x5 st hf
    rw [S_X6_cellsWith_c18] at hf
    refine aw_iload 4 dX6_cellsWith_18 rfl ?_
    refine aw_aload_n 0 dX6_cellsWith_20 rfl rfl ?_
    obtain ⟨q3, eq3, hf⟩ := Option.bind_eq_some_iff.mp hf
    refine aw_callV (rest := [.int x5]) (C_X6_cells hok hl eq3) (mg_o hok) rfl rfl nX6_cells q1735 q1737 qs54 q137 q1738 dX6_cellsWith_21 rfl (by decide) (by decide) (Nat.le_of_ble_eq_true rfl) (Nat.le_refl _) (Nat.le_refl _) (aP1_i ?_) aP1_x
    refine aw_icmp_ge 66 dX6_cellsWith_24 (by decide) (fun c4 => ?_) (fun c4 => ?_)
    · have hf := it_t c4 hf
      refine aw_lload_n 2 dX6_cellsWith_66 rfl rfl ?_
      cases hf
      exact aw_lret rfl dX6_cellsWith_67 aP1_rfl (Nat.le_refl _) (Nat.le_refl _)
    · have hf := it_f c4 hf
      refine aw_iload 3 dX6_cellsWith_27 rfl ?_
      refine aw_if_eq 66 dX6_cellsWith_29 (by decide) (fun c5 => ?_) (fun c5 => ?_)
      · have hf := it_t c5 hf
        refine aw_lload_n 2 dX6_cellsWith_66 rfl rfl ?_
        cases hf
        exact aw_lret rfl dX6_cellsWith_67 aP1_rfl (Nat.le_refl _) (Nat.le_refl _)
      · have hf := it_f c5 hf
        refine aw_lload_n 2 dX6_cellsWith_32 rfl rfl ?_
        refine aw_aload_n 0 dX6_cellsWith_33 rfl rfl ?_
        refine aw_get (v := .ref (ad 0)) (mg_o hok) rfl in_X6 0 (by decide) q1739 (Or.inl rfl) rfl dX6_cellsWith_34 ?_
        refine aw_bipush (v := 23) dX6_cellsWith_37 (by decide) ?_
        refine aw_iload 4 dX6_cellsWith_39 rfl ?_
        refine aw_iadd dX6_cellsWith_41 ?_
        obtain ⟨j6, z7, ej6, hf⟩ := ob_s hf
        refine aw_ialdj (mg_0 hok) z7 ej6 dX6_cellsWith_42 ?_
        refine aw_iload_n 1 dX6_cellsWith_43 rfl rfl ?_
        obtain ⟨q8, eq8, hf⟩ := Option.bind_eq_some_iff.mp hf
        refine aw_callS (rest := [.long x2]) (C_X6_has hl eq8) nX6_has q1903 q1904 q137 q1905 dX6_cellsWith_44 rfl (by decide) (by decide) (Nat.le_of_ble_eq_true rfl) (Nat.le_refl _) (Nat.le_refl _) (aP1_i ?_) aP1_x
        refine aw_if_eq 57 dX6_cellsWith_47 (by decide) (fun c9 => ?_) (fun c9 => ?_)
        · have hf := it_t c9 hf
          refine aw_lconst (v := 0) dX6_cellsWith_57 (by decide) ?_
          refine aw_lor dX6_cellsWith_58 ?_
          refine aw_topl (fun v10 ev10 => ?_)
          have hf := onm_a ev10 hf
          refine aw_lstore_n (lv' := [(2, .long v10), (0, .ref (ad 13)), (1, .int x1), (4, .int x4), (5, .int x5)]) dX6_cellsWith_59 rfl (Nat.le_of_ble_eq_true rfl) rfl ?_
          refine aw_iinc 4 (v := x5 + 1) (lv' := [(5, .int (x5 + 1)), (2, .long v10), (0, .ref (ad 13)), (1, .int x1), (4, .int x4)]) dX6_cellsWith_60 rfl rfl (Nat.le_of_ble_eq_true rfl) rfl ?_
          refine aw_goto 18 dX6_cellsWith_63 (by decide) ?_
          refine aw_sub [2, 3, 1, 4, 0] rfl ?_
          exact ih x1 v10 x4 (x5 + 1) st hf
        · have hf := it_f c9 hf
          refine aw_lconst (v := 1) dX6_cellsWith_50 (by decide) ?_
          refine aw_iload 4 dX6_cellsWith_51 rfl ?_
          refine aw_lshl dX6_cellsWith_53 ?_
          refine aw_goto 58 dX6_cellsWith_54 (by decide) ?_
          refine aw_lor dX6_cellsWith_58 ?_
          refine aw_topl (fun v11 ev11 => ?_)
          have hf := onm_a ev11 hf
          refine aw_lstore_n (lv' := [(2, .long v11), (0, .ref (ad 13)), (1, .int x1), (4, .int x4), (5, .int x5)]) dX6_cellsWith_59 rfl (Nat.le_of_ble_eq_true rfl) rfl ?_
          refine aw_iinc 4 (v := x5 + 1) (lv' := [(5, .int (x5 + 1)), (2, .long v11), (0, .ref (ad 13)), (1, .int x1), (4, .int x4)]) dX6_cellsWith_60 rfl rfl (Nat.le_of_ble_eq_true rfl) rfl ?_
          refine aw_goto 18 dX6_cellsWith_63 (by decide) ?_
          refine aw_sub [2, 3, 1, 4, 0] rfl ?_
          exact ih x1 v11 x4 (x5 + 1) st hf
def S_X6_cellsWith (n : Nat) (x1 : Int32) (st : MSt) : Option (Int64 × MSt) :=
  (S_X6_isThing x1 st).bind fun q1 =>
  (S_X6_goes q1 1 1 st).bind fun q2 =>
  S_X6_cellsWith_c18 n x1 0 q2.1 0 q2.2
set_option maxHeartbeats 2000000 in
theorem C_X6_cellsWith {l : Launch} {G : aG} {ad : Nat → Nat} {h0 : aH} (hok : mOk ad) (hl : l.stackTraces = false) {n : Nat} {x1 : Int32} {st : MSt} {r : Int64 × MSt} (hf : S_X6_cellsWith n x1 st = some r) : aC l G mX6_cellsWith (ws_ yX6_cellsWith cX6_cellsWith 6 (some .long)) 2 0 0 [.ref (ad 13), .int x1] (mh ad st h0) (aP1 (some (.long r.1)) (mh ad r.2 h0)) := by
  refine aC_of (M := mX6_cellsWith) rfl (by decide) (Nat.le_of_ble_eq_true rfl) hl ?_
  rw [S_X6_cellsWith] at hf
  refine aw_eqv (lv2 := [(0, .ref (ad 13)), (1, .int x1)]) rfl rfl rfl rfl ?_
  refine aw_lconst (v := 0) dX6_cellsWith_0 (by decide) ?_
  refine aw_lstore_n (lv' := [(2, .long 0), (0, .ref (ad 13)), (1, .int x1)]) dX6_cellsWith_1 rfl (Nat.le_of_ble_eq_true rfl) rfl ?_
  refine aw_aload_n 1 dX6_cellsWith_2 rfl rfl ?_
  refine aw_aload_n 1 dX6_cellsWith_3 rfl rfl ?_
  refine aw_iload_n 2 dX6_cellsWith_4 rfl rfl ?_
  obtain ⟨q1, eq1, hf⟩ := Option.bind_eq_some_iff.mp hf
  refine aw_callV (rest := [.ref (ad 13)]) (C_X6_isThing hok hl eq1) (mg_o hok) rfl rfl nX6_isThing q1966 q1968 qs74 q137 q1969 dX6_cellsWith_5 rfl (by decide) (by decide) (Nat.le_of_ble_eq_true rfl) (Nat.le_refl _) (Nat.le_refl _) (aP1_i ?_) aP1_x
  refine aw_iconst (v := 1) dX6_cellsWith_8 (by decide) ?_
  refine aw_iconst (v := 1) dX6_cellsWith_9 (by decide) ?_
  obtain ⟨q2, eq2, hf⟩ := Option.bind_eq_some_iff.mp hf
  refine aw_callV (rest := []) (C_X6_goes hok hl eq2) (mg_o hok) rfl rfl nX6_goes q1825 q1827 qs55 q137 q1828 dX6_cellsWith_10 rfl (by decide) (by decide) (Nat.le_of_ble_eq_true rfl) (Nat.le_refl _) (Nat.le_refl _) (aP1_i ?_) aP1_x
  refine aw_istore (lv' := [(4, .int q2.1), (2, .long 0), (0, .ref (ad 13)), (1, .int x1)]) dX6_cellsWith_13 (Nat.le_of_ble_eq_true rfl) rfl ?_
  refine aw_iconst (v := 0) dX6_cellsWith_15 (by decide) ?_
  refine aw_istore (lv' := [(5, .int 0), (4, .int q2.1), (2, .long 0), (0, .ref (ad 13)), (1, .int x1)]) dX6_cellsWith_16 (Nat.le_of_ble_eq_true rfl) rfl ?_
  refine aw_sub [3, 4, 2, 1, 0] rfl ?_
  exact A_X6_cellsWith_c18 hok hl n x1 0 q2.1 0 q2.2 hf
