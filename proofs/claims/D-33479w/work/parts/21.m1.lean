/-! the model: shallow functions and walks (printed by gen.py) -/
set_option maxRecDepth 100000
abbrev mX6_lists : aM := (yX6_lists, cX6_lists, 5, none, [])
theorem nX6_lists : aNoMH yX6_lists 0 := by decide +kernel
def S_X6_lists_c63 (K79 : Int32 → Int32 → MSt → Option (MSt)) : Nat → Int32 → Int32 → Int32 → Int32 → MSt → Option (MSt)
  | 0, _, _, _, _, _ => none
  | n + 1, x1, x2, x3, x4, st =>
    if x1 ≤ x4 then
      K79 x2 x3 st
    else
      onm (x3 * x2) fun v8 =>
      S_X6_lists_c63 K79 n x1 x2 v8 (x4 + 1) st
set_option maxHeartbeats 2000000 in
theorem A_X6_lists_c63 {l : Launch} {G : aG} {ad : Nat → Nat} {h0 : aH} (hok : mOk ad) (hl : l.stackTraces = false) {r : MSt} {K79 : Int32 → Int32 → MSt → Option (MSt)} (hK79 : ∀ (w2 : Int32) (w3 : Int32) (st : MSt), K79 w2 w3 st = some r → AW l G mX6_lists 2 0 0 (aP1 none (mh ad r h0)) 79 [(0, .ref (ad 13)), (2, .int w2), (3, .int w3)] [] (mh ad st h0) 0 0) : ∀ (n : Nat) (x1 : Int32) (x2 : Int32) (x3 : Int32) (x4 : Int32) (st : MSt), S_X6_lists_c63 K79 n x1 x2 x3 x4 st = some r → AW l G mX6_lists 2 0 0 (aP1 none (mh ad r h0)) 63 [(0, .ref (ad 13)), (1, .int x1), (2, .int x2), (3, .int x3), (4, .int x4)] [] (mh ad st h0) 0 0 := by
  intro n
  induction n with
  | zero =>
    intro x1 x2 x3 x4 st hf
    rw [S_X6_lists_c63] at hf
    cases hf
  | succ n ih =>
    intro x1 x2 x3 x4 st hf
    rw [S_X6_lists_c63] at hf
    refine aw_iload 4 dX6_lists_63 rfl ?_
    refine aw_iload_n 1 dX6_lists_65 rfl rfl ?_
    refine aw_icmp_ge 79 dX6_lists_66 (by decide) (fun c7 => ?_) (fun c7 => ?_)
    · have hf := it_t c7 hf
      refine aw_sub [0, 2, 3] rfl ?_
      exact hK79 x2 x3 st hf
    · have hf := it_f c7 hf
      refine aw_iload_n 3 dX6_lists_69 rfl rfl ?_
      refine aw_iload_n 2 dX6_lists_70 rfl rfl ?_
      refine aw_imul dX6_lists_71 ?_
      refine aw_topi (fun v8 ev8 => ?_)
      have hf := onm_a ev8 hf
      refine aw_istore_n (lv' := [(3, .int v8), (0, .ref (ad 13)), (1, .int x1), (2, .int x2), (4, .int x4)]) dX6_lists_72 rfl (Nat.le_of_ble_eq_true rfl) rfl ?_
      refine aw_iinc 4 (v := x4 + 1) (lv' := [(4, .int (x4 + 1)), (3, .int v8), (0, .ref (ad 13)), (1, .int x1), (2, .int x2)]) dX6_lists_73 rfl rfl (Nat.le_of_ble_eq_true rfl) rfl ?_
      refine aw_goto 63 dX6_lists_76 (by decide) ?_
      refine aw_sub [2, 3, 4, 1, 0] rfl ?_
      exact ih x1 x2 v8 (x4 + 1) st hf
def S_X6_lists_c82 : Nat → Int32 → Int32 → Int32 → MSt → Option (MSt)
  | 0, _, _, _, _ => none
  | n + 1, x2, x3, x4, st =>
    if x3 ≤ x4 then
      some st
    else
      (S_X6_lays n x4 x2 st).bind fun q12 =>
      S_X6_lists_c82 n x2 x3 (x4 + 1) q12
set_option maxHeartbeats 2000000 in
theorem A_X6_lists_c82 {l : Launch} {G : aG} {ad : Nat → Nat} {h0 : aH} (hok : mOk ad) (hl : l.stackTraces = false) {r : MSt} : ∀ (n : Nat) (x2 : Int32) (x3 : Int32) (x4 : Int32) (st : MSt), S_X6_lists_c82 n x2 x3 x4 st = some r → AW l G mX6_lists 2 0 0 (aP1 none (mh ad r h0)) 82 [(0, .ref (ad 13)), (2, .int x2), (3, .int x3), (4, .int x4)] [] (mh ad st h0) 0 0 := by
  intro n
  induction n with
  | zero =>
    intro x2 x3 x4 st hf
    rw [S_X6_lists_c82] at hf
    cases hf
  | succ n ih =>
    intro x2 x3 x4 st hf
    rw [S_X6_lists_c82] at hf
    refine aw_iload 3 dX6_lists_82 rfl ?_
    refine aw_iload_n 2 dX6_lists_84 rfl rfl ?_
    refine aw_icmp_ge 101 dX6_lists_85 (by decide) (fun c11 => ?_) (fun c11 => ?_)
    · have hf := it_t c11 hf
      cases hf
      exact aw_vret rfl dX6_lists_101 aP1_rfl (Nat.le_refl _) (Nat.le_refl _)
    · have hf := it_f c11 hf
      refine aw_aload_n 0 dX6_lists_88 rfl rfl ?_
      refine aw_iload 3 dX6_lists_89 rfl ?_
      refine aw_iload_n 1 dX6_lists_91 rfl rfl ?_
      obtain ⟨q12, eq12, hf⟩ := Option.bind_eq_some_iff.mp hf
      refine aw_callV (rest := []) (C_X6_lays hok hl eq12) (mg_o hok) rfl rfl nX6_lays q1888 q1890 qs66 q137 q1891 dX6_lists_92 rfl (by decide) (by decide) (Nat.le_of_ble_eq_true rfl) (Nat.le_refl _) (Nat.le_refl _) (aP1_v ?_) aP1_x
      refine aw_iinc 3 (v := x4 + 1) (lv' := [(4, .int (x4 + 1)), (0, .ref (ad 13)), (2, .int x2), (3, .int x3)]) dX6_lists_95 rfl rfl (Nat.le_of_ble_eq_true rfl) rfl ?_
      refine aw_goto 82 dX6_lists_98 (by decide) ?_
      refine aw_sub [1, 2, 3, 0] rfl ?_
      exact ih x2 x3 (x4 + 1) q12 hf
def S_X6_lists_j38 (n : Nat) (x1 : Int32) (x2 : Int32) (st : MSt) : Option (MSt) :=
  onm (mI st 7 x1) fun u4 =>
  onm (mI u4 8 (u4.2.1 0 1)) fun u5 =>
  onm (mI u5 9 0) fun u6 =>
  S_X6_lists_c63
    (fun y7_2 y7_3 u8 => 
        S_X6_lists_c82 n y7_2 y7_3 0 u8)
     n x1 x2 1 0 u6
set_option maxHeartbeats 2000000 in
theorem A_X6_lists_j38 {l : Launch} {G : aG} {ad : Nat → Nat} {h0 : aH} (hok : mOk ad) (hl : l.stackTraces = false) {r : MSt} : ∀ (n : Nat) (x1 : Int32) (x2 : Int32) (st : MSt), S_X6_lists_j38 n x1 x2 st = some r → AW l G mX6_lists 2 0 0 (aP1 none (mh ad r h0)) 38 [(0, .ref (ad 13)), (1, .int x1), (2, .int x2)] [] (mh ad st h0) 0 0 := by
  intro n x1 x2 st hf
  rw [S_X6_lists_j38] at hf
  refine aw_aload_n 0 dX6_lists_38 rfl rfl ?_
  refine aw_iload_n 1 dX6_lists_39 rfl rfl ?_
  refine aw_put (mg_o hok) rfl in_X6 tyX6_ok nmX6 10 (by decide) q1749 (Or.inl rfl) rfl rfl rfl (Nat.le_of_ble_eq_true rfl) (mu_i7 hok) dX6_lists_40 ?_
  refine aw_st (fun u4 eu4 => ?_)
  have hf := onm_a eu4 hf
  refine aw_aload_n 0 dX6_lists_43 rfl rfl ?_
  refine aw_aload_n 0 dX6_lists_44 rfl rfl ?_
  refine aw_get (v := .ref (ad 0)) (mg_o hok) rfl in_X6 0 (by decide) q1739 (Or.inl rfl) rfl dX6_lists_45 ?_
  refine aw_iconst (v := 1) dX6_lists_48 (by decide) ?_
  refine aw_ialdj (j := 1) (mg_0 hok) (vpc (by decide)) (by decide) dX6_lists_49 ?_
  refine aw_put (mg_o hok) rfl in_X6 tyX6_ok nmX6 11 (by decide) q1750 (Or.inl rfl) rfl rfl rfl (Nat.le_of_ble_eq_true rfl) (mu_i8 hok) dX6_lists_50 ?_
  refine aw_st (fun u5 eu5 => ?_)
  have hf := onm_a eu5 hf
  refine aw_aload_n 0 dX6_lists_53 rfl rfl ?_
  refine aw_iconst (v := 0) dX6_lists_54 (by decide) ?_
  refine aw_put (mg_o hok) rfl in_X6 tyX6_ok nmX6 12 (by decide) q1751 (Or.inl rfl) rfl rfl rfl (Nat.le_of_ble_eq_true rfl) (mu_i9 hok) dX6_lists_55 ?_
  refine aw_st (fun u6 eu6 => ?_)
  have hf := onm_a eu6 hf
  refine aw_iconst (v := 1) dX6_lists_58 (by decide) ?_
  refine aw_istore_n (lv' := [(3, .int 1), (0, .ref (ad 13)), (1, .int x1), (2, .int x2)]) dX6_lists_59 rfl (Nat.le_of_ble_eq_true rfl) rfl ?_
  refine aw_iconst (v := 0) dX6_lists_60 (by decide) ?_
  refine aw_istore (lv' := [(4, .int 0), (3, .int 1), (0, .ref (ad 13)), (1, .int x1), (2, .int x2)]) dX6_lists_61 (Nat.le_of_ble_eq_true rfl) rfl ?_
  refine aw_sub [2, 3, 4, 1, 0] rfl ?_
  refine A_X6_lists_c63 hok hl ?_ n x1 x2 1 0 u6 hf
  · intro y7_2 y7_3 u8 hf
    refine aw_iconst (v := 0) dX6_lists_79 (by decide) ?_
    refine aw_istore (lv' := [(4, .int 0), (0, .ref (ad 13)), (2, .int y7_2), (3, .int y7_3)]) dX6_lists_80 (Nat.le_of_ble_eq_true rfl) rfl ?_
    refine aw_sub [1, 2, 3, 0] rfl ?_
    exact A_X6_lists_c82 hok hl n y7_2 y7_3 0 u8 hf
def S_X6_lists (n : Nat) (st : MSt) : Option (MSt) :=
  onm (st.2.1 0 0) fun v1 =>
  onm ((st.2.1 0 1) + (1 : Int32)) fun v2 =>
  if (st.1 7) = v1 then
    if (st.1 8) = (st.2.1 0 1) then
      some st
    else
      S_X6_lists_j38 n v1 v2 st
  else
    S_X6_lists_j38 n v1 v2 st
set_option maxHeartbeats 2000000 in
theorem C_X6_lists {l : Launch} {G : aG} {ad : Nat → Nat} {h0 : aH} (hok : mOk ad) (hl : l.stackTraces = false) {n : Nat} {st : MSt} {r : MSt} (hf : S_X6_lists n st = some r) : aC l G mX6_lists (ws_ yX6_lists cX6_lists 5 none) 2 0 0 [.ref (ad 13)] (mh ad st h0) (aP1 none (mh ad r h0)) := by
  refine aC_of (M := mX6_lists) rfl (by decide) (Nat.le_of_ble_eq_true rfl) hl ?_
  rw [S_X6_lists] at hf
  refine aw_eqv (lv2 := [(0, .ref (ad 13))]) rfl rfl rfl rfl ?_
  refine aw_aload_n 0 dX6_lists_0 rfl rfl ?_
  refine aw_get (v := .ref (ad 0)) (mg_o hok) rfl in_X6 0 (by decide) q1739 (Or.inl rfl) rfl dX6_lists_1 ?_
  refine aw_iconst (v := 0) dX6_lists_4 (by decide) ?_
  refine aw_ialdj (j := 0) (mg_0 hok) (vpc (by decide)) (by decide) dX6_lists_5 ?_
  refine aw_topi (fun v1 ev1 => ?_)
  have hf := onm_a ev1 hf
  refine aw_istore_n (lv' := [(1, .int v1), (0, .ref (ad 13))]) dX6_lists_6 rfl (Nat.le_of_ble_eq_true rfl) rfl ?_
  refine aw_aload_n 1 dX6_lists_7 rfl rfl ?_
  refine aw_get (v := .ref (ad 0)) (mg_o hok) rfl in_X6 0 (by decide) q1739 (Or.inl rfl) rfl dX6_lists_8 ?_
  refine aw_iconst (v := 1) dX6_lists_11 (by decide) ?_
  refine aw_ialdj (j := 1) (mg_0 hok) (vpc (by decide)) (by decide) dX6_lists_12 ?_
  refine aw_iconst (v := 1) dX6_lists_13 (by decide) ?_
  refine aw_iadd dX6_lists_14 ?_
  refine aw_topi (fun v2 ev2 => ?_)
  have hf := onm_a ev2 hf
  refine aw_istore_n (lv' := [(2, .int v2), (1, .int v1), (0, .ref (ad 13))]) dX6_lists_15 rfl (Nat.le_of_ble_eq_true rfl) rfl ?_
  refine aw_aload_n 2 dX6_lists_16 rfl rfl ?_
  refine aw_get (v := .int (st.1 7)) (mg_o hok) rfl in_X6 10 (by decide) q1749 (Or.inl rfl) rfl dX6_lists_17 ?_
  refine aw_iload_n 1 dX6_lists_20 rfl rfl ?_
  refine aw_icmp_ne 38 dX6_lists_21 (by decide) (fun c3 => ?_) (fun c3 => ?_)
  · have hf := it_f c3 hf
    refine aw_sub [2, 1, 0] rfl ?_
    exact A_X6_lists_j38 hok hl n v1 v2 st hf
  · have hf := it_t c3 hf
    refine aw_aload_n 2 dX6_lists_24 rfl rfl ?_
    refine aw_get (v := .int (st.1 8)) (mg_o hok) rfl in_X6 11 (by decide) q1750 (Or.inl rfl) rfl dX6_lists_25 ?_
    refine aw_aload_n 2 dX6_lists_28 rfl rfl ?_
    refine aw_get (v := .ref (ad 0)) (mg_o hok) rfl in_X6 0 (by decide) q1739 (Or.inl rfl) rfl dX6_lists_29 ?_
    refine aw_iconst (v := 1) dX6_lists_32 (by decide) ?_
    refine aw_ialdj (j := 1) (mg_0 hok) (vpc (by decide)) (by decide) dX6_lists_33 ?_
    refine aw_icmp_ne 38 dX6_lists_34 (by decide) (fun c9 => ?_) (fun c9 => ?_)
    · have hf := it_f c9 hf
      refine aw_sub [2, 1, 0] rfl ?_
      exact A_X6_lists_j38 hok hl n v1 v2 st hf
    · have hf := it_t c9 hf
      cases hf
      exact aw_vret rfl dX6_lists_37 aP1_rfl (Nat.le_refl _) (Nat.le_refl _)
abbrev mX6_cellAt : aM := (yX6_cellAt, cX6_cellAt, 4, some .int, [])
theorem nX6_cellAt : aNoMH yX6_cellAt 2 := by decide +kernel
def S_X6_cellAt (x1 : Int32) (x2 : Int32) (st : MSt) : Option (Int32) :=
  onm (st.2.1 0 0) fun v1 =>
  if v1 ≤ x1 then
    if ((2 : Int32) * v1) ≤ x1 then
      if x1 = ((2 : Int32) * v1) then
        some ((v1 + (1 : Int32)) * x2)
      else
        some ((v1 - (1 : Int32)) * (x2 + (1 : Int32)))
    else
      some (((v1 * x2) + x1) - v1)
  else
    some ((v1 * x1) + x2)
set_option maxHeartbeats 2000000 in
theorem C_X6_cellAt {l : Launch} {G : aG} {ad : Nat → Nat} {h0 : aH} (hok : mOk ad) (hl : l.stackTraces = false) {x1 : Int32} {x2 : Int32} {st : MSt} {r : Int32} (hf : S_X6_cellAt x1 x2 st = some r) : aC l G mX6_cellAt (ws_ yX6_cellAt cX6_cellAt 4 (some .int)) 0 0 0 [.ref (ad 13), .int x1, .int x2] (mh ad st h0) (aP1 (some (.int r)) (mh ad st h0)) := by
  refine aC_of (M := mX6_cellAt) rfl (by decide) (Nat.le_of_ble_eq_true rfl) hl ?_
  rw [S_X6_cellAt] at hf
  refine aw_eqv (lv2 := [(0, .ref (ad 13)), (1, .int x1), (2, .int x2)]) rfl rfl rfl rfl ?_
  refine aw_aload_n 0 dX6_cellAt_0 rfl rfl ?_
  refine aw_get (v := .ref (ad 0)) (mg_o hok) rfl in_X6 0 (by decide) q1739 (Or.inl rfl) rfl dX6_cellAt_1 ?_
  refine aw_iconst (v := 0) dX6_cellAt_4 (by decide) ?_
  refine aw_ialdj (j := 0) (mg_0 hok) (vpc (by decide)) (by decide) dX6_cellAt_5 ?_
  refine aw_topi (fun v1 ev1 => ?_)
  have hf := onm_a ev1 hf
  refine aw_istore_n (lv' := [(3, .int v1), (0, .ref (ad 13)), (1, .int x1), (2, .int x2)]) dX6_cellAt_6 rfl (Nat.le_of_ble_eq_true rfl) rfl ?_
  refine aw_iload_n 2 dX6_cellAt_7 rfl rfl ?_
  refine aw_iload_n 0 dX6_cellAt_8 rfl rfl ?_
  refine aw_icmp_ge 18 dX6_cellAt_9 (by decide) (fun c2 => ?_) (fun c2 => ?_)
  · have hf := it_t c2 hf
    refine aw_iload_n 2 dX6_cellAt_18 rfl rfl ?_
    refine aw_iconst (v := 2) dX6_cellAt_19 (by decide) ?_
    refine aw_iload_n 0 dX6_cellAt_20 rfl rfl ?_
    refine aw_imul dX6_cellAt_21 ?_
    refine aw_icmp_ge 33 dX6_cellAt_22 (by decide) (fun c3 => ?_) (fun c3 => ?_)
    · have hf := it_t c3 hf
      refine aw_iload_n 2 dX6_cellAt_33 rfl rfl ?_
      refine aw_iconst (v := 2) dX6_cellAt_34 (by decide) ?_
      refine aw_iload_n 0 dX6_cellAt_35 rfl rfl ?_
      refine aw_imul dX6_cellAt_36 ?_
      refine aw_icmp_ne 48 dX6_cellAt_37 (by decide) (fun c4 => ?_) (fun c4 => ?_)
      · have hf := it_f c4 hf
        refine aw_iload_n 0 dX6_cellAt_48 rfl rfl ?_
        refine aw_iconst (v := 1) dX6_cellAt_49 (by decide) ?_
        refine aw_isub dX6_cellAt_50 ?_
        refine aw_iload_n 3 dX6_cellAt_51 rfl rfl ?_
        refine aw_iconst (v := 1) dX6_cellAt_52 (by decide) ?_
        refine aw_iadd dX6_cellAt_53 ?_
        refine aw_imul dX6_cellAt_54 ?_
        cases hf
        exact aw_iret rfl dX6_cellAt_55 aP1_rfl (Nat.le_refl _) (Nat.le_refl _)
      · have hf := it_t c4 hf
        refine aw_iload_n 0 dX6_cellAt_40 rfl rfl ?_
        refine aw_iconst (v := 1) dX6_cellAt_41 (by decide) ?_
        refine aw_iadd dX6_cellAt_42 ?_
        refine aw_iload_n 3 dX6_cellAt_43 rfl rfl ?_
        refine aw_imul dX6_cellAt_44 ?_
        refine aw_goto 55 dX6_cellAt_45 (by decide) ?_
        cases hf
        exact aw_iret rfl dX6_cellAt_55 aP1_rfl (Nat.le_refl _) (Nat.le_refl _)
    · have hf := it_f c3 hf
      refine aw_iload_n 0 dX6_cellAt_25 rfl rfl ?_
      refine aw_iload_n 3 dX6_cellAt_26 rfl rfl ?_
      refine aw_imul dX6_cellAt_27 ?_
      refine aw_iload_n 2 dX6_cellAt_28 rfl rfl ?_
      refine aw_iadd dX6_cellAt_29 ?_
      refine aw_iload_n 0 dX6_cellAt_30 rfl rfl ?_
      refine aw_isub dX6_cellAt_31 ?_
      cases hf
      exact aw_iret rfl dX6_cellAt_32 aP1_rfl (Nat.le_refl _) (Nat.le_refl _)
  · have hf := it_f c2 hf
    refine aw_iload_n 0 dX6_cellAt_12 rfl rfl ?_
    refine aw_iload_n 2 dX6_cellAt_13 rfl rfl ?_
    refine aw_imul dX6_cellAt_14 ?_
    refine aw_iload_n 3 dX6_cellAt_15 rfl rfl ?_
    refine aw_iadd dX6_cellAt_16 ?_
    cases hf
    exact aw_iret rfl dX6_cellAt_17 aP1_rfl (Nat.le_refl _) (Nat.le_refl _)
abbrev mX6_arrangementOf : aM := (yX6_arrangementOf, cX6_arrangementOf, 6, some .int, [])
theorem nX6_arrangementOf : aNoMH yX6_arrangementOf 1 := by decide +kernel
def S_X6_arrangementOf_c22 (K82 : Int32 → Int32 → Int32 → Int32 → MSt → Option (Int32 × MSt)) : Nat → Int32 → Int32 → Int32 → Int32 → Int32 → MSt → Option (Int32 × MSt)
  | 0, _, _, _, _, _, _ => none
  | n + 1, x1, x2, x3, x4, x5, st =>
    if (st.2.1 0 0) ≤ x5 then
      K82 x1 x2 x3 x4 st
    else
      if x4 = 0 then
        S_X6_arrangementOf_c22 K82 n x1 x2 x3 0 (x5 + 1) st
      else
        (S_X6_cellAt x1 x5 st).bind fun q5 =>
        ob ((23 : Int32) + q5) 432 fun j6 =>
        ob (((5 : Int32) * x3) + x5) 605 fun j8 =>
        if (st.2.1 0 j6) = ((1 : Int32) <<< ((st.2.1 3 j8) &&& 31)) then
          S_X6_arrangementOf_c22 K82 n x1 x2 x3 1 (x5 + 1) st
        else
          S_X6_arrangementOf_c22 K82 n x1 x2 x3 0 (x5 + 1) st
set_option maxHeartbeats 2000000 in
theorem A_X6_arrangementOf_c22 {l : Launch} {G : aG} {ad : Nat → Nat} {h0 : aH} (hok : mOk ad) (hl : l.stackTraces = false) {r : Int32 × MSt} {K82 : Int32 → Int32 → Int32 → Int32 → MSt → Option (Int32 × MSt)} (hK82 : ∀ (w1 : Int32) (w2 : Int32) (w3 : Int32) (w4 : Int32) (st : MSt), K82 w1 w2 w3 w4 st = some r → AW l G mX6_arrangementOf 3 0 0 (aP1 (some (.int r.1)) (mh ad r.2 h0)) 82 [(0, .ref (ad 13)), (1, .int w1), (2, .int w2), (3, .int w3), (4, .int w4)] [] (mh ad st h0) 0 0) : ∀ (n : Nat) (x1 : Int32) (x2 : Int32) (x3 : Int32) (x4 : Int32) (x5 : Int32) (st : MSt), S_X6_arrangementOf_c22 K82 n x1 x2 x3 x4 x5 st = some r → AW l G mX6_arrangementOf 3 0 0 (aP1 (some (.int r.1)) (mh ad r.2 h0)) 22 [(0, .ref (ad 13)), (1, .int x1), (2, .int x2), (3, .int x3), (4, .int x4), (5, .int x5)] [] (mh ad st h0) 0 0 := by
  intro n
  induction n with
  | zero =>
    intro x1 x2 x3 x4 x5 st hf
    rw [S_X6_arrangementOf_c22] at hf
    cases hf
  | succ n ih =>
    intro x1 x2 x3 x4 x5 st hf
    rw [S_X6_arrangementOf_c22] at hf
    refine aw_iload 5 dX6_arrangementOf_22 rfl ?_
    refine aw_aload_n 0 dX6_arrangementOf_24 rfl rfl ?_
    refine aw_get (v := .ref (ad 0)) (mg_o hok) rfl in_X6 0 (by decide) q1739 (Or.inl rfl) rfl dX6_arrangementOf_25 ?_
    refine aw_iconst (v := 0) dX6_arrangementOf_28 (by decide) ?_
    refine aw_ialdj (j := 0) (mg_0 hok) (vpc (by decide)) (by decide) dX6_arrangementOf_29 ?_
    refine aw_icmp_ge 82 dX6_arrangementOf_30 (by decide) (fun c3 => ?_) (fun c3 => ?_)
    · have hf := it_t c3 hf
      refine aw_sub [0, 1, 2, 3, 4] rfl ?_
      exact hK82 x1 x2 x3 x4 st hf
    · have hf := it_f c3 hf
      refine aw_iload 4 dX6_arrangementOf_33 rfl ?_
      refine aw_if_eq 73 dX6_arrangementOf_35 (by decide) (fun c4 => ?_) (fun c4 => ?_)
      · have hf := it_t c4 hf
        refine aw_iconst (v := 0) dX6_arrangementOf_73 (by decide) ?_
        refine aw_istore (lv' := [(4, .int 0), (0, .ref (ad 13)), (1, .int x1), (2, .int x2), (3, .int x3), (5, .int x5)]) dX6_arrangementOf_74 (Nat.le_of_ble_eq_true rfl) rfl ?_
        refine aw_iinc 5 (v := x5 + 1) (lv' := [(5, .int (x5 + 1)), (4, .int 0), (0, .ref (ad 13)), (1, .int x1), (2, .int x2), (3, .int x3)]) dX6_arrangementOf_76 rfl rfl (Nat.le_of_ble_eq_true rfl) rfl ?_
        refine aw_goto 22 dX6_arrangementOf_79 (by decide) ?_
        refine aw_sub [2, 3, 4, 5, 1, 0] rfl ?_
        exact ih x1 x2 x3 0 (x5 + 1) st hf
      · have hf := it_f c4 hf
        refine aw_aload_n 0 dX6_arrangementOf_38 rfl rfl ?_
        refine aw_get (v := .ref (ad 0)) (mg_o hok) rfl in_X6 0 (by decide) q1739 (Or.inl rfl) rfl dX6_arrangementOf_39 ?_
        refine aw_bipush (v := 23) dX6_arrangementOf_42 (by decide) ?_
        refine aw_aload_n 0 dX6_arrangementOf_44 rfl rfl ?_
        refine aw_iload_n 1 dX6_arrangementOf_45 rfl rfl ?_
        refine aw_iload 5 dX6_arrangementOf_46 rfl ?_
        obtain ⟨q5, eq5, hf⟩ := Option.bind_eq_some_iff.mp hf
        refine aw_callV (rest := [.int 23, .ref (ad 0)]) (C_X6_cellAt hok hl eq5) (mg_o hok) rfl rfl nX6_cellAt q1892 q1894 qs67 q137 q1895 dX6_arrangementOf_48 rfl (by decide) (by decide) (Nat.le_of_ble_eq_true rfl) (Nat.le_refl _) (Nat.le_refl _) (aP1_i ?_) aP1_x
        refine aw_iadd dX6_arrangementOf_51 ?_
        obtain ⟨j6, z7, ej6, hf⟩ := ob_s hf
        refine aw_ialdj (mg_0 hok) z7 ej6 dX6_arrangementOf_52 ?_
        refine aw_iconst (v := 1) dX6_arrangementOf_53 (by decide) ?_
        refine aw_aload_n 0 dX6_arrangementOf_54 rfl rfl ?_
        refine aw_get (v := .ref (ad 3)) (mg_o hok) rfl in_X6 13 (by decide) q1752 (Or.inl rfl) rfl dX6_arrangementOf_55 ?_
        refine aw_iconst (v := 5) dX6_arrangementOf_58 (by decide) ?_
        refine aw_iload_n 3 dX6_arrangementOf_59 rfl rfl ?_
        refine aw_imul dX6_arrangementOf_60 ?_
        refine aw_iload 5 dX6_arrangementOf_61 rfl ?_
        refine aw_iadd dX6_arrangementOf_63 ?_
        obtain ⟨j8, z9, ej8, hf⟩ := ob_s hf
        refine aw_ialdj (mg_3 hok) z9 ej8 dX6_arrangementOf_64 ?_
        refine aw_ishl dX6_arrangementOf_65 ?_
        refine aw_icmp_ne 73 dX6_arrangementOf_66 (by decide) (fun c10 => ?_) (fun c10 => ?_)
        · have hf := it_f c10 hf
          refine aw_iconst (v := 0) dX6_arrangementOf_73 (by decide) ?_
          refine aw_istore (lv' := [(4, .int 0), (0, .ref (ad 13)), (1, .int x1), (2, .int x2), (3, .int x3), (5, .int x5)]) dX6_arrangementOf_74 (Nat.le_of_ble_eq_true rfl) rfl ?_
          refine aw_iinc 5 (v := x5 + 1) (lv' := [(5, .int (x5 + 1)), (4, .int 0), (0, .ref (ad 13)), (1, .int x1), (2, .int x2), (3, .int x3)]) dX6_arrangementOf_76 rfl rfl (Nat.le_of_ble_eq_true rfl) rfl ?_
          refine aw_goto 22 dX6_arrangementOf_79 (by decide) ?_
          refine aw_sub [2, 3, 4, 5, 1, 0] rfl ?_
          exact ih x1 x2 x3 0 (x5 + 1) st hf
        · have hf := it_t c10 hf
          refine aw_iconst (v := 1) dX6_arrangementOf_69 (by decide) ?_
          refine aw_goto 74 dX6_arrangementOf_70 (by decide) ?_
          refine aw_istore (lv' := [(4, .int 1), (0, .ref (ad 13)), (1, .int x1), (2, .int x2), (3, .int x3), (5, .int x5)]) dX6_arrangementOf_74 (Nat.le_of_ble_eq_true rfl) rfl ?_
          refine aw_iinc 5 (v := x5 + 1) (lv' := [(5, .int (x5 + 1)), (4, .int 1), (0, .ref (ad 13)), (1, .int x1), (2, .int x2), (3, .int x3)]) dX6_arrangementOf_76 rfl rfl (Nat.le_of_ble_eq_true rfl) rfl ?_
          refine aw_goto 22 dX6_arrangementOf_79 (by decide) ?_
          refine aw_sub [2, 3, 4, 5, 1, 0] rfl ?_
          exact ih x1 x2 x3 1 (x5 + 1) st hf
def S_X6_arrangementOf_c8 : Nat → Int32 → Int32 → Int32 → MSt → Option (Int32 × MSt)
  | 0, _, _, _, _ => none
  | n + 1, x1, x2, x3, st =>
    if (st.1 9) ≤ x3 then
      some (x2, st)
    else
      S_X6_arrangementOf_c22
        (fun y3_1 y3_2 y3_3 y3_4 u4 => 
            if y3_4 = 0 then
              S_X6_arrangementOf_c8 n y3_1 y3_2 (y3_3 + 1) u4
            else
              S_X6_arrangementOf_c8 n y3_1 y3_3 (y3_3 + 1) u4)
         n x1 x2 x3 1 0 st
set_option maxHeartbeats 2000000 in
theorem A_X6_arrangementOf_c8 {l : Launch} {G : aG} {ad : Nat → Nat} {h0 : aH} (hok : mOk ad) (hl : l.stackTraces = false) {r : Int32 × MSt} : ∀ (n : Nat) (x1 : Int32) (x2 : Int32) (x3 : Int32) (st : MSt), S_X6_arrangementOf_c8 n x1 x2 x3 st = some r → AW l G mX6_arrangementOf 3 0 0 (aP1 (some (.int r.1)) (mh ad r.2 h0)) 8 [(0, .ref (ad 13)), (1, .int x1), (2, .int x2), (3, .int x3)] [] (mh ad st h0) 0 0 := by
  intro n
  induction n with
  | zero =>
    intro x1 x2 x3 st hf
    rw [S_X6_arrangementOf_c8] at hf
    cases hf
  | succ n ih =>
    intro x1 x2 x3 st hf
    rw [S_X6_arrangementOf_c8] at hf
    refine aw_iload_n 3 dX6_arrangementOf_8 rfl rfl ?_
    refine aw_aload_n 0 dX6_arrangementOf_9 rfl rfl ?_
    refine aw_get (v := .int (st.1 9)) (mg_o hok) rfl in_X6 12 (by decide) q1751 (Or.inl rfl) rfl dX6_arrangementOf_10 ?_
    refine aw_icmp_ge 99 dX6_arrangementOf_13 (by decide) (fun c2 => ?_) (fun c2 => ?_)
    · have hf := it_t c2 hf
      refine aw_iload_n 2 dX6_arrangementOf_99 rfl rfl ?_
      cases hf
      exact aw_iret rfl dX6_arrangementOf_100 aP1_rfl (Nat.le_refl _) (Nat.le_refl _)
    · have hf := it_f c2 hf
      refine aw_iconst (v := 1) dX6_arrangementOf_16 (by decide) ?_
      refine aw_istore (lv' := [(4, .int 1), (0, .ref (ad 13)), (1, .int x1), (2, .int x2), (3, .int x3)]) dX6_arrangementOf_17 (Nat.le_of_ble_eq_true rfl) rfl ?_
      refine aw_iconst (v := 0) dX6_arrangementOf_19 (by decide) ?_
      refine aw_istore (lv' := [(5, .int 0), (4, .int 1), (0, .ref (ad 13)), (1, .int x1), (2, .int x2), (3, .int x3)]) dX6_arrangementOf_20 (Nat.le_of_ble_eq_true rfl) rfl ?_
      refine aw_sub [2, 3, 4, 5, 1, 0] rfl ?_
      refine A_X6_arrangementOf_c22 hok hl ?_ n x1 x2 x3 1 0 st hf
      · intro y3_1 y3_2 y3_3 y3_4 u4 hf
        refine aw_iload 4 dX6_arrangementOf_82 rfl ?_
        refine aw_if_eq 91 dX6_arrangementOf_84 (by decide) (fun c5 => ?_) (fun c5 => ?_)
        · have hf := it_t c5 hf
          refine aw_iload_n 2 dX6_arrangementOf_91 rfl rfl ?_
          refine aw_istore_n (lv' := [(2, .int y3_2), (0, .ref (ad 13)), (1, .int y3_1), (3, .int y3_3), (4, .int y3_4)]) dX6_arrangementOf_92 rfl (Nat.le_of_ble_eq_true rfl) rfl ?_
          refine aw_iinc 3 (v := y3_3 + 1) (lv' := [(3, .int (y3_3 + 1)), (2, .int y3_2), (0, .ref (ad 13)), (1, .int y3_1), (4, .int y3_4)]) dX6_arrangementOf_93 rfl rfl (Nat.le_of_ble_eq_true rfl) rfl ?_
          refine aw_goto 8 dX6_arrangementOf_96 (by decide) ?_
          refine aw_sub [2, 3, 1, 0] rfl ?_
          exact ih y3_1 y3_2 (y3_3 + 1) u4 hf
        · have hf := it_f c5 hf
          refine aw_iload_n 3 dX6_arrangementOf_87 rfl rfl ?_
          refine aw_goto 92 dX6_arrangementOf_88 (by decide) ?_
          refine aw_istore_n (lv' := [(2, .int y3_3), (0, .ref (ad 13)), (1, .int y3_1), (3, .int y3_3), (4, .int y3_4)]) dX6_arrangementOf_92 rfl (Nat.le_of_ble_eq_true rfl) rfl ?_
          refine aw_iinc 3 (v := y3_3 + 1) (lv' := [(3, .int (y3_3 + 1)), (2, .int y3_3), (0, .ref (ad 13)), (1, .int y3_1), (4, .int y3_4)]) dX6_arrangementOf_93 rfl rfl (Nat.le_of_ble_eq_true rfl) rfl ?_
          refine aw_goto 8 dX6_arrangementOf_96 (by decide) ?_
          refine aw_sub [2, 3, 1, 0] rfl ?_
          exact ih y3_1 y3_3 (y3_3 + 1) u4 hf
def S_X6_arrangementOf (n : Nat) (x1 : Int32) (st : MSt) : Option (Int32 × MSt) :=
  (S_X6_lists n st).bind fun q1 =>
  S_X6_arrangementOf_c8 n x1 ((-1)) 0 q1
set_option maxHeartbeats 2000000 in
theorem C_X6_arrangementOf {l : Launch} {G : aG} {ad : Nat → Nat} {h0 : aH} (hok : mOk ad) (hl : l.stackTraces = false) {n : Nat} {x1 : Int32} {st : MSt} {r : Int32 × MSt} (hf : S_X6_arrangementOf n x1 st = some r) : aC l G mX6_arrangementOf (ws_ yX6_arrangementOf cX6_arrangementOf 6 (some .int)) 3 0 0 [.ref (ad 13), .int x1] (mh ad st h0) (aP1 (some (.int r.1)) (mh ad r.2 h0)) := by
  refine aC_of (M := mX6_arrangementOf) rfl (by decide) (Nat.le_of_ble_eq_true rfl) hl ?_
  rw [S_X6_arrangementOf] at hf
  refine aw_eqv (lv2 := [(0, .ref (ad 13)), (1, .int x1)]) rfl rfl rfl rfl ?_
  refine aw_aload_n 0 dX6_arrangementOf_0 rfl rfl ?_
  obtain ⟨q1, eq1, hf⟩ := Option.bind_eq_some_iff.mp hf
  refine aw_callV (rest := []) (C_X6_lists hok hl eq1) (mg_o hok) rfl rfl nX6_lists q1884 q1886 qs65 q137 q1887 dX6_arrangementOf_1 rfl (by decide) (by decide) (Nat.le_of_ble_eq_true rfl) (Nat.le_refl _) (Nat.le_refl _) (aP1_v ?_) aP1_x
  refine aw_iconst (v := (-1)) dX6_arrangementOf_4 (by decide) ?_
  refine aw_istore_n (lv' := [(2, .int ((-1))), (0, .ref (ad 13)), (1, .int x1)]) dX6_arrangementOf_5 rfl (Nat.le_of_ble_eq_true rfl) rfl ?_
  refine aw_iconst (v := 0) dX6_arrangementOf_6 (by decide) ?_
  refine aw_istore_n (lv' := [(3, .int 0), (2, .int ((-1))), (0, .ref (ad 13)), (1, .int x1)]) dX6_arrangementOf_7 rfl (Nat.le_of_ble_eq_true rfl) rfl ?_
  refine aw_sub [2, 3, 1, 0] rfl ?_
  exact A_X6_arrangementOf_c8 hok hl n x1 ((-1)) 0 q1 hf
abbrev mX6_tellFirsts : aM := (yX6_tellFirsts, cX6_tellFirsts, 6, some .int, [])
theorem nX6_tellFirsts : aNoMH yX6_tellFirsts 0 := by decide +kernel
def S_X6_tellFirsts_j53 (K18 : Int32 → Int32 → MSt → Option (Int32 × MSt)) (n : Nat) (x1 : Int32) (x2 : Int32) (x3 : Int32) (xs0 : Int32) (st : MSt) : Option (Int32 × MSt) :=
  ob ((4 : Int32) * x3) 480 fun j8 =>
  (S_X6_tells xs0 (st.2.1 4 j8) 0 st).bind fun q10 =>
  if x1 ≤ x2 then
    ob (((4 : Int32) * x3) + (2 : Int32)) 480 fun j12 =>
    (S_X6_tells (x1 + x2) (q10.2.2.1 4 j12) 0 q10.2).bind fun q14 =>
    K18 x1 (x2 + 1) q14.2
  else
    ob (((4 : Int32) * x3) + (2 : Int32)) 480 fun j15 =>
    (S_X6_tells (x1 + x2) (q10.2.2.1 4 j15) 0 q10.2).bind fun q17 =>
    K18 x1 (x2 + 1) q17.2
set_option maxHeartbeats 2000000 in
theorem A_X6_tellFirsts_j53 {l : Launch} {G : aG} {ad : Nat → Nat} {h0 : aH} (hok : mOk ad) (hl : l.stackTraces = false) {r : Int32 × MSt} {K18 : Int32 → Int32 → MSt → Option (Int32 × MSt)} (hK18 : ∀ (w1 : Int32) (w2 : Int32) (st : MSt), K18 w1 w2 st = some r → AW l G mX6_tellFirsts 4 0 0 (aP1 (some (.int r.1)) (mh ad r.2 h0)) 18 [(0, .ref (ad 13)), (1, .int w1), (2, .int w2)] [] (mh ad st h0) 0 0) : ∀ (n : Nat) (x1 : Int32) (x2 : Int32) (x3 : Int32) (xs0 : Int32) (st : MSt), S_X6_tellFirsts_j53 K18 n x1 x2 x3 xs0 st = some r → AW l G mX6_tellFirsts 4 0 0 (aP1 (some (.int r.1)) (mh ad r.2 h0)) 53 [(0, .ref (ad 13)), (1, .int x1), (2, .int x2), (3, .int x3)] [.int xs0, .ref (ad 13)] (mh ad st h0) 0 0 := by
  intro n x1 x2 x3 xs0 st hf
  rw [S_X6_tellFirsts_j53] at hf
  refine aw_aload_n 0 dX6_tellFirsts_53 rfl rfl ?_
  refine aw_get (v := .ref (ad 4)) (mg_o hok) rfl in_X6 14 (by decide) q1753 (Or.inl rfl) rfl dX6_tellFirsts_54 ?_
  refine aw_iconst (v := 4) dX6_tellFirsts_57 (by decide) ?_
  refine aw_iload_n 3 dX6_tellFirsts_58 rfl rfl ?_
  refine aw_imul dX6_tellFirsts_59 ?_
  obtain ⟨j8, z9, ej8, hf⟩ := ob_s hf
  refine aw_ialdj (mg_4 hok) z9 ej8 dX6_tellFirsts_60 ?_
  refine aw_iconst (v := 0) dX6_tellFirsts_61 (by decide) ?_
  obtain ⟨q10, eq10, hf⟩ := Option.bind_eq_some_iff.mp hf
  refine aw_callV (rest := []) (C_X6_tells hok hl eq10) (mg_o hok) rfl rfl nX6_tells q1857 q1859 qs61 q137 q1860 dX6_tellFirsts_62 rfl (by decide) (by decide) (Nat.le_of_ble_eq_true rfl) (Nat.le_refl _) (Nat.le_refl _) (aP1_i ?_) aP1_x
  refine aw_istore (lv' := [(4, .int q10.1), (0, .ref (ad 13)), (1, .int x1), (2, .int x2), (3, .int x3)]) dX6_tellFirsts_65 (Nat.le_of_ble_eq_true rfl) rfl ?_
  refine aw_aload_n 1 dX6_tellFirsts_67 rfl rfl ?_
  refine aw_iload_n 3 dX6_tellFirsts_68 rfl rfl ?_
  refine aw_iload_n 2 dX6_tellFirsts_69 rfl rfl ?_
  refine aw_icmp_ge 79 dX6_tellFirsts_70 (by decide) (fun c11 => ?_) (fun c11 => ?_)
  · have hf := it_t c11 hf
    refine aw_iload_n 2 dX6_tellFirsts_79 rfl rfl ?_
    refine aw_iload_n 3 dX6_tellFirsts_80 rfl rfl ?_
    refine aw_iadd dX6_tellFirsts_81 ?_
    refine aw_aload_n 1 dX6_tellFirsts_82 rfl rfl ?_
    refine aw_get (v := .ref (ad 4)) (mg_o hok) rfl in_X6 14 (by decide) q1753 (Or.inl rfl) rfl dX6_tellFirsts_83 ?_
    refine aw_iconst (v := 4) dX6_tellFirsts_86 (by decide) ?_
    refine aw_iload_n 4 dX6_tellFirsts_87 rfl rfl ?_
    refine aw_imul dX6_tellFirsts_88 ?_
    refine aw_iconst (v := 2) dX6_tellFirsts_89 (by decide) ?_
    refine aw_iadd dX6_tellFirsts_90 ?_
    obtain ⟨j12, z13, ej12, hf⟩ := ob_s hf
    refine aw_ialdj (mg_4 hok) z13 ej12 dX6_tellFirsts_91 ?_
    refine aw_iconst (v := 0) dX6_tellFirsts_92 (by decide) ?_
    obtain ⟨q14, eq14, hf⟩ := Option.bind_eq_some_iff.mp hf
    refine aw_callV (rest := []) (C_X6_tells hok hl eq14) (mg_o hok) rfl rfl nX6_tells q1857 q1859 qs61 q137 q1860 dX6_tellFirsts_93 rfl (by decide) (by decide) (Nat.le_of_ble_eq_true rfl) (Nat.le_refl _) (Nat.le_refl _) (aP1_i ?_) aP1_x
    refine aw_istore (lv' := [(5, .int q14.1), (4, .int q10.1), (0, .ref (ad 13)), (1, .int x1), (2, .int x2), (3, .int x3)]) dX6_tellFirsts_96 (Nat.le_of_ble_eq_true rfl) rfl ?_
    refine aw_iinc 4 (v := x2 + 1) (lv' := [(2, .int (x2 + 1)), (5, .int q14.1), (4, .int q10.1), (0, .ref (ad 13)), (1, .int x1), (3, .int x3)]) dX6_tellFirsts_98 rfl rfl (Nat.le_of_ble_eq_true rfl) rfl ?_
    refine aw_goto 18 dX6_tellFirsts_101 (by decide) ?_
    refine aw_sub [3, 4, 0] rfl ?_
    exact hK18 x1 (x2 + 1) q14.2 hf
  · have hf := it_f c11 hf
    refine aw_iload_n 2 dX6_tellFirsts_73 rfl rfl ?_
    refine aw_iload_n 3 dX6_tellFirsts_74 rfl rfl ?_
    refine aw_iadd dX6_tellFirsts_75 ?_
    refine aw_goto 82 dX6_tellFirsts_76 (by decide) ?_
    refine aw_aload_n 1 dX6_tellFirsts_82 rfl rfl ?_
    refine aw_get (v := .ref (ad 4)) (mg_o hok) rfl in_X6 14 (by decide) q1753 (Or.inl rfl) rfl dX6_tellFirsts_83 ?_
    refine aw_iconst (v := 4) dX6_tellFirsts_86 (by decide) ?_
    refine aw_iload_n 4 dX6_tellFirsts_87 rfl rfl ?_
    refine aw_imul dX6_tellFirsts_88 ?_
    refine aw_iconst (v := 2) dX6_tellFirsts_89 (by decide) ?_
    refine aw_iadd dX6_tellFirsts_90 ?_
    obtain ⟨j15, z16, ej15, hf⟩ := ob_s hf
    refine aw_ialdj (mg_4 hok) z16 ej15 dX6_tellFirsts_91 ?_
    refine aw_iconst (v := 0) dX6_tellFirsts_92 (by decide) ?_
    obtain ⟨q17, eq17, hf⟩ := Option.bind_eq_some_iff.mp hf
    refine aw_callV (rest := []) (C_X6_tells hok hl eq17) (mg_o hok) rfl rfl nX6_tells q1857 q1859 qs61 q137 q1860 dX6_tellFirsts_93 rfl (by decide) (by decide) (Nat.le_of_ble_eq_true rfl) (Nat.le_refl _) (Nat.le_refl _) (aP1_i ?_) aP1_x
    refine aw_istore (lv' := [(5, .int q17.1), (4, .int q10.1), (0, .ref (ad 13)), (1, .int x1), (2, .int x2), (3, .int x3)]) dX6_tellFirsts_96 (Nat.le_of_ble_eq_true rfl) rfl ?_
    refine aw_iinc 4 (v := x2 + 1) (lv' := [(2, .int (x2 + 1)), (5, .int q17.1), (4, .int q10.1), (0, .ref (ad 13)), (1, .int x1), (3, .int x3)]) dX6_tellFirsts_98 rfl rfl (Nat.le_of_ble_eq_true rfl) rfl ?_
    refine aw_goto 18 dX6_tellFirsts_101 (by decide) ?_
    refine aw_sub [3, 4, 0] rfl ?_
    exact hK18 x1 (x2 + 1) q17.2 hf
def S_X6_tellFirsts_c18 (K104 : MSt → Option (Int32 × MSt)) : Nat → Int32 → Int32 → MSt → Option (Int32 × MSt)
  | 0, _, _, _ => none
  | n + 1, x1, x2, st =>
    if ((2 : Int32) * x1) ≤ x2 then
      K104 st
    else
      (S_X6_arrangementOf n x2 st).bind fun q5 =>
      if q5.1 = ((-1)) then
        S_X6_tellFirsts_c18 K104 n x1 (x2 + 1) q5.2
      else
        if x1 ≤ x2 then
          S_X6_tellFirsts_j53 (S_X6_tellFirsts_c18 K104 n) n x1 x2 q5.1 (x2 - x1) q5.2
        else
          S_X6_tellFirsts_j53 (S_X6_tellFirsts_c18 K104 n) n x1 x2 q5.1 (((3 : Int32) * x1) + x2) q5.2
set_option maxHeartbeats 2000000 in
theorem A_X6_tellFirsts_c18 {l : Launch} {G : aG} {ad : Nat → Nat} {h0 : aH} (hok : mOk ad) (hl : l.stackTraces = false) {r : Int32 × MSt} {K104 : MSt → Option (Int32 × MSt)} (hK104 : ∀ (st : MSt), K104 st = some r → AW l G mX6_tellFirsts 4 0 0 (aP1 (some (.int r.1)) (mh ad r.2 h0)) 104 [(0, .ref (ad 13))] [] (mh ad st h0) 0 0) : ∀ (n : Nat) (x1 : Int32) (x2 : Int32) (st : MSt), S_X6_tellFirsts_c18 K104 n x1 x2 st = some r → AW l G mX6_tellFirsts 4 0 0 (aP1 (some (.int r.1)) (mh ad r.2 h0)) 18 [(0, .ref (ad 13)), (1, .int x1), (2, .int x2)] [] (mh ad st h0) 0 0 := by
  intro n
  induction n with
  | zero =>
    intro x1 x2 st hf
    rw [S_X6_tellFirsts_c18] at hf
    cases hf
  | succ n ih =>
    intro x1 x2 st hf
    rw [S_X6_tellFirsts_c18] at hf
    refine aw_iload_n 2 dX6_tellFirsts_18 rfl rfl ?_
    refine aw_iconst (v := 2) dX6_tellFirsts_19 (by decide) ?_
    refine aw_iload_n 1 dX6_tellFirsts_20 rfl rfl ?_
    refine aw_imul dX6_tellFirsts_21 ?_
    refine aw_icmp_ge 104 dX6_tellFirsts_22 (by decide) (fun c4 => ?_) (fun c4 => ?_)
    · have hf := it_t c4 hf
      refine aw_sub [0] rfl ?_
      exact hK104 st hf
    · have hf := it_f c4 hf
      refine aw_aload_n 0 dX6_tellFirsts_25 rfl rfl ?_
      refine aw_iload_n 2 dX6_tellFirsts_26 rfl rfl ?_
      obtain ⟨q5, eq5, hf⟩ := Option.bind_eq_some_iff.mp hf
      refine aw_callV (rest := []) (C_X6_arrangementOf hok hl eq5) (mg_o hok) rfl rfl nX6_arrangementOf q1880 q1882 qs64 q137 q1883 dX6_tellFirsts_27 rfl (by decide) (by decide) (Nat.le_of_ble_eq_true rfl) (Nat.le_refl _) (Nat.le_refl _) (aP1_i ?_) aP1_x
      refine aw_istore_n (lv' := [(3, .int q5.1), (0, .ref (ad 13)), (1, .int x1), (2, .int x2)]) dX6_tellFirsts_30 rfl (Nat.le_of_ble_eq_true rfl) rfl ?_
      refine aw_iload_n 0 dX6_tellFirsts_31 rfl rfl ?_
      refine aw_iconst (v := (-1)) dX6_tellFirsts_32 (by decide) ?_
      refine aw_icmp_eq 98 dX6_tellFirsts_33 (by decide) (fun c6 => ?_) (fun c6 => ?_)
      · have hf := it_t c6 hf
        refine aw_iinc 3 (v := x2 + 1) (lv' := [(2, .int (x2 + 1)), (3, .int q5.1), (0, .ref (ad 13)), (1, .int x1)]) dX6_tellFirsts_98 rfl rfl (Nat.le_of_ble_eq_true rfl) rfl ?_
        refine aw_goto 18 dX6_tellFirsts_101 (by decide) ?_
        refine aw_sub [2, 3, 0] rfl ?_
        exact ih x1 (x2 + 1) q5.2 hf
      · have hf := it_f c6 hf
        refine aw_aload_n 1 dX6_tellFirsts_36 rfl rfl ?_
        refine aw_iload_n 3 dX6_tellFirsts_37 rfl rfl ?_
        refine aw_iload_n 2 dX6_tellFirsts_38 rfl rfl ?_
        refine aw_icmp_ge 50 dX6_tellFirsts_39 (by decide) (fun c7 => ?_) (fun c7 => ?_)
        · have hf := it_t c7 hf
          refine aw_iload_n 3 dX6_tellFirsts_50 rfl rfl ?_
          refine aw_iload_n 2 dX6_tellFirsts_51 rfl rfl ?_
          refine aw_isub dX6_tellFirsts_52 ?_
          refine aw_sub [1, 2, 3, 0] rfl ?_
          exact A_X6_tellFirsts_j53 hok hl (fun w1 w2 wst hf => ih w1 w2 wst hf) n x1 x2 q5.1 (x2 - x1) q5.2 hf
        · have hf := it_f c7 hf
          refine aw_iconst (v := 3) dX6_tellFirsts_42 (by decide) ?_
          refine aw_iload_n 2 dX6_tellFirsts_43 rfl rfl ?_
          refine aw_imul dX6_tellFirsts_44 ?_
          refine aw_iload_n 3 dX6_tellFirsts_45 rfl rfl ?_
          refine aw_iadd dX6_tellFirsts_46 ?_
          refine aw_goto 53 dX6_tellFirsts_47 (by decide) ?_
          refine aw_sub [1, 2, 3, 0] rfl ?_
          exact A_X6_tellFirsts_j53 hok hl (fun w1 w2 wst hf => ih w1 w2 wst hf) n x1 x2 q5.1 (((3 : Int32) * x1) + x2) q5.2 hf
def S_X6_tellFirsts (n : Nat) (st : MSt) : Option (Int32 × MSt) :=
  onm (mI st 2 0) fun u1 =>
  (S_X6_records n u1).bind fun q2 =>
  onm (q2.2.1 0 0) fun v3 =>
  S_X6_tellFirsts_c18
    (fun u9 => 
        (S_X6_tellings n u9).bind fun q10 =>
        some (q10, u9))
     n v3 0 q2
set_option maxHeartbeats 2000000 in
theorem C_X6_tellFirsts {l : Launch} {G : aG} {ad : Nat → Nat} {h0 : aH} (hok : mOk ad) (hl : l.stackTraces = false) {n : Nat} {st : MSt} {r : Int32 × MSt} (hf : S_X6_tellFirsts n st = some r) : aC l G mX6_tellFirsts (ws_ yX6_tellFirsts cX6_tellFirsts 6 (some .int)) 4 0 0 [.ref (ad 13)] (mh ad st h0) (aP1 (some (.int r.1)) (mh ad r.2 h0)) := by
  refine aC_of (M := mX6_tellFirsts) rfl (by decide) (Nat.le_of_ble_eq_true rfl) hl ?_
  rw [S_X6_tellFirsts] at hf
  refine aw_eqv (lv2 := [(0, .ref (ad 13))]) rfl rfl rfl rfl ?_
  refine aw_aload_n 0 dX6_tellFirsts_0 rfl rfl ?_
  refine aw_iconst (v := 0) dX6_tellFirsts_1 (by decide) ?_
  refine aw_put (mg_o hok) rfl in_X6 tyX6_ok nmX6 5 (by decide) q1744 (Or.inl rfl) rfl rfl rfl (Nat.le_of_ble_eq_true rfl) (mu_i2 hok) dX6_tellFirsts_2 ?_
  refine aw_st (fun u1 eu1 => ?_)
  have hf := onm_a eu1 hf
  refine aw_aload_n 0 dX6_tellFirsts_5 rfl rfl ?_
  obtain ⟨q2, eq2, hf⟩ := Option.bind_eq_some_iff.mp hf
  refine aw_callV (rest := []) (C_X6_records hok hl eq2) (mg_o hok) rfl rfl nX6_records q1829 q1831 qs56 q137 q1832 dX6_tellFirsts_6 rfl (by decide) (by decide) (Nat.le_of_ble_eq_true rfl) (Nat.le_refl _) (Nat.le_refl _) (aP1_v ?_) aP1_x
  refine aw_aload_n 0 dX6_tellFirsts_9 rfl rfl ?_
  refine aw_get (v := .ref (ad 0)) (mg_o hok) rfl in_X6 0 (by decide) q1739 (Or.inl rfl) rfl dX6_tellFirsts_10 ?_
  refine aw_iconst (v := 0) dX6_tellFirsts_13 (by decide) ?_
  refine aw_ialdj (j := 0) (mg_0 hok) (vpc (by decide)) (by decide) dX6_tellFirsts_14 ?_
  refine aw_topi (fun v3 ev3 => ?_)
  have hf := onm_a ev3 hf
  refine aw_istore_n (lv' := [(1, .int v3), (0, .ref (ad 13))]) dX6_tellFirsts_15 rfl (Nat.le_of_ble_eq_true rfl) rfl ?_
  refine aw_iconst (v := 0) dX6_tellFirsts_16 (by decide) ?_
  refine aw_istore_n (lv' := [(2, .int 0), (1, .int v3), (0, .ref (ad 13))]) dX6_tellFirsts_17 rfl (Nat.le_of_ble_eq_true rfl) rfl ?_
  refine aw_sub [2, 1, 0] rfl ?_
  refine A_X6_tellFirsts_c18 hok hl ?_ n v3 0 q2 hf
  · intro u9 hf
    refine aw_aload_n 0 dX6_tellFirsts_104 rfl rfl ?_
    obtain ⟨q10, eq10, hf⟩ := Option.bind_eq_some_iff.mp hf
    refine aw_callV (rest := []) (C_X6_tellings hok hl eq10) (mg_o hok) rfl rfl nX6_tellings q1872 q1874 qs63 q137 q1875 dX6_tellFirsts_105 rfl (by decide) (by decide) (Nat.le_of_ble_eq_true rfl) (Nat.le_refl _) (Nat.le_refl _) (aP1_i ?_) aP1_x
    cases hf
    exact aw_iret rfl dX6_tellFirsts_108 aP1_rfl (Nat.le_refl _) (Nat.le_refl _)
abbrev mX6_exchanged : aM := (yX6_exchanged, cX6_exchanged, 3, some .int, [])
theorem nX6_exchanged : aNoMH yX6_exchanged 3 := by decide +kernel
def S_X6_exchanged (x0 : Int32) (x1 : Int32) (x2 : Int32) : Option (Int32) :=
  if x0 = x1 then
    some x2
  else
    if x0 = x2 then
      some x1
    else
      some x0
set_option maxHeartbeats 2000000 in
theorem C_X6_exchanged {l : Launch} {G : aG} {h : aH} (hl : l.stackTraces = false) {x0 : Int32} {x1 : Int32} {x2 : Int32} {r : Int32} (hf : S_X6_exchanged x0 x1 x2 = some r) : aC l G mX6_exchanged (ws_ yX6_exchanged cX6_exchanged 3 (some .int)) 0 0 0 [.int x0, .int x1, .int x2] h (aP1 (some (.int r)) h) := by
  refine aC_of (M := mX6_exchanged) rfl (by decide) (Nat.le_of_ble_eq_true rfl) hl ?_
  rw [S_X6_exchanged] at hf
  refine aw_eqv (lv2 := [(0, .int x0), (1, .int x1), (2, .int x2)]) rfl rfl rfl rfl ?_
  refine aw_iload_n 0 dX6_exchanged_0 rfl rfl ?_
  refine aw_iload_n 1 dX6_exchanged_1 rfl rfl ?_
  refine aw_icmp_ne 9 dX6_exchanged_2 (by decide) (fun c1 => ?_) (fun c1 => ?_)
  · have hf := it_f c1 hf
    refine aw_iload_n 0 dX6_exchanged_9 rfl rfl ?_
    refine aw_iload_n 2 dX6_exchanged_10 rfl rfl ?_
    refine aw_icmp_ne 18 dX6_exchanged_11 (by decide) (fun c2 => ?_) (fun c2 => ?_)
    · have hf := it_f c2 hf
      refine aw_iload_n 0 dX6_exchanged_18 rfl rfl ?_
      cases hf
      exact aw_iret rfl dX6_exchanged_19 aP1_rfl (Nat.le_refl _) (Nat.le_refl _)
    · have hf := it_t c2 hf
      refine aw_iload_n 1 dX6_exchanged_14 rfl rfl ?_
      refine aw_goto 19 dX6_exchanged_15 (by decide) ?_
      cases hf
      exact aw_iret rfl dX6_exchanged_19 aP1_rfl (Nat.le_refl _) (Nat.le_refl _)
  · have hf := it_t c1 hf
    refine aw_iload_n 2 dX6_exchanged_5 rfl rfl ?_
    refine aw_goto 19 dX6_exchanged_6 (by decide) ?_
    cases hf
    exact aw_iret rfl dX6_exchanged_19 aP1_rfl (Nat.le_refl _) (Nat.le_refl _)
abbrev mX6_has : aM := (yX6_has, cX6_has, 2, some .boolean, [])
theorem nX6_has : aNoMH yX6_has 2 := by decide +kernel
def S_X6_has (x0 : Int32) (x1 : Int32) : Option (Int32) :=
  if ((x0 >>> (x1 &&& 31)) &&& (1 : Int32)) = 1 then
    some 1
  else
    some 0
set_option maxHeartbeats 2000000 in
theorem C_X6_has {l : Launch} {G : aG} {h : aH} (hl : l.stackTraces = false) {x0 : Int32} {x1 : Int32} {r : Int32} (hf : S_X6_has x0 x1 = some r) : aC l G mX6_has (ws_ yX6_has cX6_has 2 (some .boolean)) 0 0 0 [.int x0, .int x1] h (aP1 (some (.int r)) h) := by
  refine aC_of (M := mX6_has) rfl (by decide) (Nat.le_of_ble_eq_true rfl) hl ?_
  rw [S_X6_has] at hf
  refine aw_eqv (lv2 := [(0, .int x0), (1, .int x1)]) rfl rfl rfl rfl ?_
  refine aw_iload_n 0 dX6_has_0 rfl rfl ?_
  refine aw_iload_n 1 dX6_has_1 rfl rfl ?_
  refine aw_ishr dX6_has_2 ?_
  refine aw_iconst (v := 1) dX6_has_3 (by decide) ?_
  refine aw_iand dX6_has_4 ?_
  refine aw_iconst (v := 1) dX6_has_5 (by decide) ?_
  refine aw_icmp_ne 13 dX6_has_6 (by decide) (fun c1 => ?_) (fun c1 => ?_)
  · have hf := it_f c1 hf
    refine aw_iconst (v := 0) dX6_has_13 (by decide) ?_
    cases hf
    exact aw_zret rfl rfl dX6_has_14 aP1_rfl (Nat.le_refl _) (Nat.le_refl _)
  · have hf := it_t c1 hf
    refine aw_iconst (v := 1) dX6_has_9 (by decide) ?_
    refine aw_goto 14 dX6_has_10 (by decide) ?_
    cases hf
    exact aw_zret rfl rfl dX6_has_14 aP1_rfl (Nat.le_refl _) (Nat.le_refl _)
abbrev mX6_exchange : aM := (yX6_exchange, cX6_exchange, 7, some .int, [])
theorem nX6_exchange : aNoMH yX6_exchange 2 := by decide +kernel
def S_X6_exchange_j89 (K41 : Int32 → Int32 → Int32 → Int32 → MSt → Option (Int32 × MSt)) (n : Nat) (x1 : Int32) (x2 : Int32) (x4 : Int32) (x5 : Int32) (xs0 : Int32) (xs1 : Int32) (st : MSt) : Option (Int32 × MSt) :=
  (S_X6_flag xs0).bind fun q13 =>
  onm (xs1 + q13) fun v14 =>
  ob ((3 : Int32) + x4) 432 fun j15 =>
  (S_X6_exchanged x5 x1 x2).bind fun q17 =>
  ob ((3 : Int32) + x4) 432 fun j18 =>
  onm (mA st 0 j18 ((st.2.1 0 j15) + ((2 : Int32) * (q17 - x5)))) fun u20 =>
  K41 x1 x2 v14 (x4 + 1) u20
set_option maxHeartbeats 2000000 in
theorem A_X6_exchange_j89 {l : Launch} {G : aG} {ad : Nat → Nat} {h0 : aH} (hok : mOk ad) (hl : l.stackTraces = false) {r : Int32 × MSt} {K41 : Int32 → Int32 → Int32 → Int32 → MSt → Option (Int32 × MSt)} (hK41 : ∀ (w1 : Int32) (w2 : Int32) (w3 : Int32) (w4 : Int32) (st : MSt), K41 w1 w2 w3 w4 st = some r → AW l G mX6_exchange 2 0 0 (aP1 (some (.int r.1)) (mh ad r.2 h0)) 41 [(0, .ref (ad 13)), (1, .int w1), (2, .int w2), (3, .int w3), (4, .int w4)] [] (mh ad st h0) 0 0) : ∀ (n : Nat) (x1 : Int32) (x2 : Int32) (x4 : Int32) (x5 : Int32) (xs0 : Int32) (xs1 : Int32) (st : MSt), S_X6_exchange_j89 K41 n x1 x2 x4 x5 xs0 xs1 st = some r → AW l G mX6_exchange 2 0 0 (aP1 (some (.int r.1)) (mh ad r.2 h0)) 89 [(0, .ref (ad 13)), (1, .int x1), (2, .int x2), (4, .int x4), (5, .int x5)] [.int xs0, .int xs1] (mh ad st h0) 0 0 := by
  intro n x1 x2 x4 x5 xs0 xs1 st hf
  rw [S_X6_exchange_j89] at hf
  obtain ⟨q13, eq13, hf⟩ := Option.bind_eq_some_iff.mp hf
  refine aw_callS (rest := [.int xs1]) (C_X6_flag hl eq13) nX6_flag q1865 q1866 q137 q1867 dX6_exchange_89 rfl (by decide) (by decide) (Nat.le_of_ble_eq_true rfl) (Nat.le_refl _) (Nat.le_refl _) (aP1_i ?_) aP1_x
  refine aw_iadd dX6_exchange_92 ?_
  refine aw_topi (fun v14 ev14 => ?_)
  have hf := onm_a ev14 hf
  refine aw_istore_n (lv' := [(3, .int v14), (0, .ref (ad 13)), (1, .int x1), (2, .int x2), (4, .int x4), (5, .int x5)]) dX6_exchange_93 rfl (Nat.le_of_ble_eq_true rfl) rfl ?_
  refine aw_aload_n 1 dX6_exchange_94 rfl rfl ?_
  refine aw_get (v := .ref (ad 0)) (mg_o hok) rfl in_X6 0 (by decide) q1739 (Or.inl rfl) rfl dX6_exchange_95 ?_
  refine aw_iconst (v := 3) dX6_exchange_98 (by decide) ?_
  refine aw_iload 4 dX6_exchange_99 rfl ?_
  refine aw_iadd dX6_exchange_101 ?_
  refine aw_dup2_11 dX6_exchange_102 rfl rfl ?_
  obtain ⟨j15, z16, ej15, hf⟩ := ob_s hf
  refine aw_ialdj (mg_0 hok) z16 ej15 dX6_exchange_103 ?_
  refine aw_iconst (v := 2) dX6_exchange_104 (by decide) ?_
  refine aw_iload 5 dX6_exchange_105 rfl ?_
  refine aw_iload_n 2 dX6_exchange_107 rfl rfl ?_
  refine aw_iload_n 3 dX6_exchange_108 rfl rfl ?_
  obtain ⟨q17, eq17, hf⟩ := Option.bind_eq_some_iff.mp hf
  refine aw_callS (rest := [.int 2, .int (st.2.1 0 j15), .int ((3 : Int32) + x4), .ref (ad 0)]) (C_X6_exchanged hl eq17) nX6_exchanged q1900 q1901 q137 q1902 dX6_exchange_109 rfl (by decide) (by decide) (Nat.le_of_ble_eq_true rfl) (Nat.le_refl _) (Nat.le_refl _) (aP1_i ?_) aP1_x
  refine aw_iload 5 dX6_exchange_112 rfl ?_
  refine aw_isub dX6_exchange_114 ?_
  refine aw_imul dX6_exchange_115 ?_
  refine aw_iadd dX6_exchange_116 ?_
  obtain ⟨j18, z19, ej18, hf⟩ := ob_s hf
  refine aw_iastj (mg_0 hok) z19 ej18 (mu_0 hok) dX6_exchange_117 ?_
  refine aw_st (fun u20 eu20 => ?_)
  have hf := onm_a eu20 hf
  refine aw_iinc 4 (v := x4 + 1) (lv' := [(4, .int (x4 + 1)), (3, .int v14), (0, .ref (ad 13)), (1, .int x1), (2, .int x2), (5, .int x5)]) dX6_exchange_118 rfl rfl (Nat.le_of_ble_eq_true rfl) rfl ?_
  refine aw_goto 41 dX6_exchange_121 (by decide) ?_
  refine aw_sub [2, 3, 4, 1, 0] rfl ?_
  exact hK41 x1 x2 v14 (x4 + 1) u20 hf
def S_X6_exchange_c41 (K124 : Int32 → Int32 → Int32 → MSt → Option (Int32 × MSt)) : Nat → Int32 → Int32 → Int32 → Int32 → MSt → Option (Int32 × MSt)
  | 0, _, _, _, _, _ => none
  | n + 1, x1, x2, x3, x4, st =>
    (S_X6_edges st).bind fun q6 =>
    if q6 ≤ x4 then
      K124 x1 x2 x3 st
    else
      ob ((3 : Int32) + x4) 432 fun j8 =>
      (S_X6_letterOf (st.2.1 0 j8) st).bind fun q10 =>
      if q10 = ((-1)) then
        S_X6_exchange_c41 K124 n x1 x2 x3 (x4 + 1) st
      else
        if q10 = x1 then
          S_X6_exchange_j89 (S_X6_exchange_c41 K124 n) n x1 x2 x4 q10 1 x3 st
        else
          if q10 = x2 then
            S_X6_exchange_j89 (S_X6_exchange_c41 K124 n) n x1 x2 x4 q10 1 x3 st
          else
            S_X6_exchange_j89 (S_X6_exchange_c41 K124 n) n x1 x2 x4 q10 0 x3 st
set_option maxHeartbeats 2000000 in
theorem A_X6_exchange_c41 {l : Launch} {G : aG} {ad : Nat → Nat} {h0 : aH} (hok : mOk ad) (hl : l.stackTraces = false) {r : Int32 × MSt} {K124 : Int32 → Int32 → Int32 → MSt → Option (Int32 × MSt)} (hK124 : ∀ (w1 : Int32) (w2 : Int32) (w3 : Int32) (st : MSt), K124 w1 w2 w3 st = some r → AW l G mX6_exchange 2 0 0 (aP1 (some (.int r.1)) (mh ad r.2 h0)) 124 [(0, .ref (ad 13)), (1, .int w1), (2, .int w2), (3, .int w3)] [] (mh ad st h0) 0 0) : ∀ (n : Nat) (x1 : Int32) (x2 : Int32) (x3 : Int32) (x4 : Int32) (st : MSt), S_X6_exchange_c41 K124 n x1 x2 x3 x4 st = some r → AW l G mX6_exchange 2 0 0 (aP1 (some (.int r.1)) (mh ad r.2 h0)) 41 [(0, .ref (ad 13)), (1, .int x1), (2, .int x2), (3, .int x3), (4, .int x4)] [] (mh ad st h0) 0 0 := by
  intro n
  induction n with
  | zero =>
    intro x1 x2 x3 x4 st hf
    rw [S_X6_exchange_c41] at hf
    cases hf
  | succ n ih =>
    intro x1 x2 x3 x4 st hf
    rw [S_X6_exchange_c41] at hf
    refine aw_iload 4 dX6_exchange_41 rfl ?_
    refine aw_aload_n 0 dX6_exchange_43 rfl rfl ?_
    obtain ⟨q6, eq6, hf⟩ := Option.bind_eq_some_iff.mp hf
    refine aw_callV (rest := [.int x4]) (C_X6_edges hok hl eq6) (mg_o hok) rfl rfl nX6_edges q1849 q1851 qs59 q137 q1852 dX6_exchange_44 rfl (by decide) (by decide) (Nat.le_of_ble_eq_true rfl) (Nat.le_refl _) (Nat.le_refl _) (aP1_i ?_) aP1_x
    refine aw_icmp_ge 124 dX6_exchange_47 (by decide) (fun c7 => ?_) (fun c7 => ?_)
    · have hf := it_t c7 hf
      refine aw_sub [0, 1, 2, 3] rfl ?_
      exact hK124 x1 x2 x3 st hf
    · have hf := it_f c7 hf
      refine aw_aload_n 0 dX6_exchange_50 rfl rfl ?_
      refine aw_aload_n 0 dX6_exchange_51 rfl rfl ?_
      refine aw_get (v := .ref (ad 0)) (mg_o hok) rfl in_X6 0 (by decide) q1739 (Or.inl rfl) rfl dX6_exchange_52 ?_
      refine aw_iconst (v := 3) dX6_exchange_55 (by decide) ?_
      refine aw_iload 4 dX6_exchange_56 rfl ?_
      refine aw_iadd dX6_exchange_58 ?_
      obtain ⟨j8, z9, ej8, hf⟩ := ob_s hf
      refine aw_ialdj (mg_0 hok) z9 ej8 dX6_exchange_59 ?_
      obtain ⟨q10, eq10, hf⟩ := Option.bind_eq_some_iff.mp hf
      refine aw_callV (rest := []) (C_X6_letterOf hok hl eq10) (mg_o hok) rfl rfl nX6_letterOf q1861 q1863 qs62 q137 q1864 dX6_exchange_60 rfl (by decide) (by decide) (Nat.le_of_ble_eq_true rfl) (Nat.le_refl _) (Nat.le_refl _) (aP1_i ?_) aP1_x
      refine aw_istore (lv' := [(5, .int q10), (0, .ref (ad 13)), (1, .int x1), (2, .int x2), (3, .int x3), (4, .int x4)]) dX6_exchange_63 (Nat.le_of_ble_eq_true rfl) rfl ?_
      refine aw_iload 0 dX6_exchange_65 rfl ?_
      refine aw_iconst (v := (-1)) dX6_exchange_67 (by decide) ?_
      refine aw_icmp_eq 118 dX6_exchange_68 (by decide) (fun c11 => ?_) (fun c11 => ?_)
      · have hf := it_t c11 hf
        refine aw_iinc 5 (v := x4 + 1) (lv' := [(4, .int (x4 + 1)), (5, .int q10), (0, .ref (ad 13)), (1, .int x1), (2, .int x2), (3, .int x3)]) dX6_exchange_118 rfl rfl (Nat.le_of_ble_eq_true rfl) rfl ?_
        refine aw_goto 41 dX6_exchange_121 (by decide) ?_
        refine aw_sub [2, 3, 4, 5, 0] rfl ?_
        exact ih x1 x2 x3 (x4 + 1) st hf
      · have hf := it_f c11 hf
        refine aw_iload_n 4 dX6_exchange_71 rfl rfl ?_
        refine aw_iload 0 dX6_exchange_72 rfl ?_
        refine aw_iload_n 2 dX6_exchange_74 rfl rfl ?_
        refine aw_icmp_eq 84 dX6_exchange_75 (by decide) (fun c12 => ?_) (fun c12 => ?_)
        · have hf := it_t c12 hf
          refine aw_iconst (v := 1) dX6_exchange_84 (by decide) ?_
          refine aw_goto 89 dX6_exchange_85 (by decide) ?_
          refine aw_sub [1, 2, 3, 5, 0] rfl ?_
          exact A_X6_exchange_j89 hok hl (fun w1 w2 w3 w4 wst hf => ih w1 w2 w3 w4 wst hf) n x1 x2 x4 q10 1 x3 st hf
        · have hf := it_f c12 hf
          refine aw_iload 0 dX6_exchange_78 rfl ?_
          refine aw_iload_n 3 dX6_exchange_80 rfl rfl ?_
          refine aw_icmp_ne 88 dX6_exchange_81 (by decide) (fun c13 => ?_) (fun c13 => ?_)
          · have hf := it_f c13 hf
            refine aw_iconst (v := 0) dX6_exchange_88 (by decide) ?_
            refine aw_sub [1, 2, 3, 5, 0] rfl ?_
            exact A_X6_exchange_j89 hok hl (fun w1 w2 w3 w4 wst hf => ih w1 w2 w3 w4 wst hf) n x1 x2 x4 q10 0 x3 st hf
          · have hf := it_t c13 hf
            refine aw_iconst (v := 1) dX6_exchange_84 (by decide) ?_
            refine aw_goto 89 dX6_exchange_85 (by decide) ?_
            refine aw_sub [1, 2, 3, 5, 0] rfl ?_
            exact A_X6_exchange_j89 hok hl (fun w1 w2 w3 w4 wst hf => ih w1 w2 w3 w4 wst hf) n x1 x2 x4 q10 1 x3 st hf
def S_X6_exchange_c142 (K195 : Int32 → Int32 → Int32 → Int32 → Int32 → MSt → Option (Int32 × MSt)) : Nat → Int32 → Int32 → Int32 → Int32 → Int32 → Int32 → MSt → Option (Int32 × MSt)
  | 0, _, _, _, _, _, _, _ => none
  | n + 1, x1, x2, x3, x4, x5, x6, st =>
    if (st.2.1 0 1) < x6 then
      K195 x1 x2 x3 x4 x5 st
    else
      ob ((23 : Int32) + x4) 432 fun j19 =>
      (S_X6_has (st.2.1 0 j19) x6).bind fun q21 =>
      if q21 = 0 then
        onm (x5 ||| (0 : Int32)) fun v23 =>
        S_X6_exchange_c142 K195 n x1 x2 x3 x4 v23 (x6 + 1) st
      else
        (S_X6_exchanged x6 x1 x2).bind fun q24 =>
        onm (x5 ||| ((1 : Int32) <<< (q24 &&& 31))) fun v25 =>
        S_X6_exchange_c142 K195 n x1 x2 x3 x4 v25 (x6 + 1) st
set_option maxHeartbeats 2000000 in
theorem A_X6_exchange_c142 {l : Launch} {G : aG} {ad : Nat → Nat} {h0 : aH} (hok : mOk ad) (hl : l.stackTraces = false) {r : Int32 × MSt} {K195 : Int32 → Int32 → Int32 → Int32 → Int32 → MSt → Option (Int32 × MSt)} (hK195 : ∀ (w1 : Int32) (w2 : Int32) (w3 : Int32) (w4 : Int32) (w5 : Int32) (st : MSt), K195 w1 w2 w3 w4 w5 st = some r → AW l G mX6_exchange 2 0 0 (aP1 (some (.int r.1)) (mh ad r.2 h0)) 195 [(0, .ref (ad 13)), (1, .int w1), (2, .int w2), (3, .int w3), (4, .int w4), (5, .int w5)] [] (mh ad st h0) 0 0) : ∀ (n : Nat) (x1 : Int32) (x2 : Int32) (x3 : Int32) (x4 : Int32) (x5 : Int32) (x6 : Int32) (st : MSt), S_X6_exchange_c142 K195 n x1 x2 x3 x4 x5 x6 st = some r → AW l G mX6_exchange 2 0 0 (aP1 (some (.int r.1)) (mh ad r.2 h0)) 142 [(0, .ref (ad 13)), (1, .int x1), (2, .int x2), (3, .int x3), (4, .int x4), (5, .int x5), (6, .int x6)] [] (mh ad st h0) 0 0 := by
  intro n
  induction n with
  | zero =>
    intro x1 x2 x3 x4 x5 x6 st hf
    rw [S_X6_exchange_c142] at hf
    cases hf
  | succ n ih =>
    intro x1 x2 x3 x4 x5 x6 st hf
    rw [S_X6_exchange_c142] at hf
    refine aw_iload 6 dX6_exchange_142 rfl ?_
    refine aw_aload_n 0 dX6_exchange_144 rfl rfl ?_
    refine aw_get (v := .ref (ad 0)) (mg_o hok) rfl in_X6 0 (by decide) q1739 (Or.inl rfl) rfl dX6_exchange_145 ?_
    refine aw_iconst (v := 1) dX6_exchange_148 (by decide) ?_
    refine aw_ialdj (j := 1) (mg_0 hok) (vpc (by decide)) (by decide) dX6_exchange_149 ?_
    refine aw_icmp_gt 195 dX6_exchange_150 (by decide) (fun c18 => ?_) (fun c18 => ?_)
    · have hf := it_t c18 hf
      refine aw_sub [0, 1, 2, 3, 4, 5] rfl ?_
      exact hK195 x1 x2 x3 x4 x5 st hf
    · have hf := it_f c18 hf
      refine aw_iload 5 dX6_exchange_153 rfl ?_
      refine aw_aload_n 0 dX6_exchange_155 rfl rfl ?_
      refine aw_get (v := .ref (ad 0)) (mg_o hok) rfl in_X6 0 (by decide) q1739 (Or.inl rfl) rfl dX6_exchange_156 ?_
      refine aw_bipush (v := 23) dX6_exchange_159 (by decide) ?_
      refine aw_iload 4 dX6_exchange_161 rfl ?_
      refine aw_iadd dX6_exchange_163 ?_
      obtain ⟨j19, z20, ej19, hf⟩ := ob_s hf
      refine aw_ialdj (mg_0 hok) z20 ej19 dX6_exchange_164 ?_
      refine aw_iload 6 dX6_exchange_165 rfl ?_
      obtain ⟨q21, eq21, hf⟩ := Option.bind_eq_some_iff.mp hf
      refine aw_callS (rest := [.int x5]) (C_X6_has hl eq21) nX6_has q1903 q1904 q137 q1905 dX6_exchange_167 rfl (by decide) (by decide) (Nat.le_of_ble_eq_true rfl) (Nat.le_refl _) (Nat.le_refl _) (aP1_i ?_) aP1_x
      refine aw_if_eq 185 dX6_exchange_170 (by decide) (fun c22 => ?_) (fun c22 => ?_)
      · have hf := it_t c22 hf
        refine aw_iconst (v := 0) dX6_exchange_185 (by decide) ?_
        refine aw_ior dX6_exchange_186 ?_
        refine aw_topi (fun v23 ev23 => ?_)
        have hf := onm_a ev23 hf
        refine aw_istore (lv' := [(5, .int v23), (0, .ref (ad 13)), (1, .int x1), (2, .int x2), (3, .int x3), (4, .int x4), (6, .int x6)]) dX6_exchange_187 (Nat.le_of_ble_eq_true rfl) rfl ?_
        refine aw_iinc 6 (v := x6 + 1) (lv' := [(6, .int (x6 + 1)), (5, .int v23), (0, .ref (ad 13)), (1, .int x1), (2, .int x2), (3, .int x3), (4, .int x4)]) dX6_exchange_189 rfl rfl (Nat.le_of_ble_eq_true rfl) rfl ?_
        refine aw_goto 142 dX6_exchange_192 (by decide) ?_
        refine aw_sub [2, 3, 4, 5, 6, 1, 0] rfl ?_
        exact ih x1 x2 x3 x4 v23 (x6 + 1) st hf
      · have hf := it_f c22 hf
        refine aw_iconst (v := 1) dX6_exchange_173 (by decide) ?_
        refine aw_iload 6 dX6_exchange_174 rfl ?_
        refine aw_iload_n 1 dX6_exchange_176 rfl rfl ?_
        refine aw_iload_n 2 dX6_exchange_177 rfl rfl ?_
        obtain ⟨q24, eq24, hf⟩ := Option.bind_eq_some_iff.mp hf
        refine aw_callS (rest := [.int 1, .int x5]) (C_X6_exchanged hl eq24) nX6_exchanged q1900 q1901 q137 q1902 dX6_exchange_178 rfl (by decide) (by decide) (Nat.le_of_ble_eq_true rfl) (Nat.le_refl _) (Nat.le_refl _) (aP1_i ?_) aP1_x
        refine aw_ishl dX6_exchange_181 ?_
        refine aw_goto 186 dX6_exchange_182 (by decide) ?_
        refine aw_ior dX6_exchange_186 ?_
        refine aw_topi (fun v25 ev25 => ?_)
        have hf := onm_a ev25 hf
        refine aw_istore (lv' := [(5, .int v25), (0, .ref (ad 13)), (1, .int x1), (2, .int x2), (3, .int x3), (4, .int x4), (6, .int x6)]) dX6_exchange_187 (Nat.le_of_ble_eq_true rfl) rfl ?_
        refine aw_iinc 6 (v := x6 + 1) (lv' := [(6, .int (x6 + 1)), (5, .int v25), (0, .ref (ad 13)), (1, .int x1), (2, .int x2), (3, .int x3), (4, .int x4)]) dX6_exchange_189 rfl rfl (Nat.le_of_ble_eq_true rfl) rfl ?_
        refine aw_goto 142 dX6_exchange_192 (by decide) ?_
        refine aw_sub [2, 3, 4, 5, 6, 1, 0] rfl ?_
        exact ih x1 x2 x3 x4 v25 (x6 + 1) st hf
def S_X6_exchange_c127 : Nat → Int32 → Int32 → Int32 → Int32 → MSt → Option (Int32 × MSt)
  | 0, _, _, _, _, _ => none
  | n + 1, x1, x2, x3, x4, st =>
    (S_X6_cells st).bind fun q16 =>
    if q16 ≤ x4 then
      some (x3, st)
    else
      S_X6_exchange_c142
        (fun y18_1 y18_2 y18_3 y18_4 y18_5 u19 => 
            ob ((23 : Int32) + y18_4) 432 fun j20 =>
            onm (mA u19 0 j20 y18_5) fun u22 =>
            S_X6_exchange_c127 n y18_1 y18_2 y18_3 (y18_4 + 1) u22)
         n x1 x2 x3 x4 0 0 st
set_option maxHeartbeats 2000000 in
theorem A_X6_exchange_c127 {l : Launch} {G : aG} {ad : Nat → Nat} {h0 : aH} (hok : mOk ad) (hl : l.stackTraces = false) {r : Int32 × MSt} : ∀ (n : Nat) (x1 : Int32) (x2 : Int32) (x3 : Int32) (x4 : Int32) (st : MSt), S_X6_exchange_c127 n x1 x2 x3 x4 st = some r → AW l G mX6_exchange 2 0 0 (aP1 (some (.int r.1)) (mh ad r.2 h0)) 127 [(0, .ref (ad 13)), (1, .int x1), (2, .int x2), (3, .int x3), (4, .int x4)] [] (mh ad st h0) 0 0 := by
  intro n
  induction n with
  | zero =>
    intro x1 x2 x3 x4 st hf
    rw [S_X6_exchange_c127] at hf
    cases hf
  | succ n ih =>
    intro x1 x2 x3 x4 st hf
    rw [S_X6_exchange_c127] at hf
    refine aw_iload 4 dX6_exchange_127 rfl ?_
    refine aw_aload_n 0 dX6_exchange_129 rfl rfl ?_
    obtain ⟨q16, eq16, hf⟩ := Option.bind_eq_some_iff.mp hf
    refine aw_callV (rest := [.int x4]) (C_X6_cells hok hl eq16) (mg_o hok) rfl rfl nX6_cells q1735 q1737 qs54 q137 q1738 dX6_exchange_130 rfl (by decide) (by decide) (Nat.le_of_ble_eq_true rfl) (Nat.le_refl _) (Nat.le_refl _) (aP1_i ?_) aP1_x
    refine aw_icmp_ge 213 dX6_exchange_133 (by decide) (fun c17 => ?_) (fun c17 => ?_)
    · have hf := it_t c17 hf
      refine aw_iload_n 3 dX6_exchange_213 rfl rfl ?_
      cases hf
      exact aw_iret rfl dX6_exchange_214 aP1_rfl (Nat.le_refl _) (Nat.le_refl _)
    · have hf := it_f c17 hf
      refine aw_iconst (v := 0) dX6_exchange_136 (by decide) ?_
      refine aw_istore (lv' := [(5, .int 0), (0, .ref (ad 13)), (1, .int x1), (2, .int x2), (3, .int x3), (4, .int x4)]) dX6_exchange_137 (Nat.le_of_ble_eq_true rfl) rfl ?_
      refine aw_iconst (v := 0) dX6_exchange_139 (by decide) ?_
      refine aw_istore (lv' := [(6, .int 0), (5, .int 0), (0, .ref (ad 13)), (1, .int x1), (2, .int x2), (3, .int x3), (4, .int x4)]) dX6_exchange_140 (Nat.le_of_ble_eq_true rfl) rfl ?_
      refine aw_sub [2, 3, 4, 5, 6, 1, 0] rfl ?_
      refine A_X6_exchange_c142 hok hl ?_ n x1 x2 x3 x4 0 0 st hf
      · intro y18_1 y18_2 y18_3 y18_4 y18_5 u19 hf
        refine aw_aload_n 0 dX6_exchange_195 rfl rfl ?_
        refine aw_get (v := .ref (ad 0)) (mg_o hok) rfl in_X6 0 (by decide) q1739 (Or.inl rfl) rfl dX6_exchange_196 ?_
        refine aw_bipush (v := 23) dX6_exchange_199 (by decide) ?_
        refine aw_iload 4 dX6_exchange_201 rfl ?_
        refine aw_iadd dX6_exchange_203 ?_
        refine aw_iload 5 dX6_exchange_204 rfl ?_
        obtain ⟨j20, z21, ej20, hf⟩ := ob_s hf
        refine aw_iastj (mg_0 hok) z21 ej20 (mu_0 hok) dX6_exchange_206 ?_
        refine aw_st (fun u22 eu22 => ?_)
        have hf := onm_a eu22 hf
        refine aw_iinc 4 (v := y18_4 + 1) (lv' := [(4, .int (y18_4 + 1)), (0, .ref (ad 13)), (1, .int y18_1), (2, .int y18_2), (3, .int y18_3), (5, .int y18_5)]) dX6_exchange_207 rfl rfl (Nat.le_of_ble_eq_true rfl) rfl ?_
        refine aw_goto 127 dX6_exchange_210 (by decide) ?_
        refine aw_sub [1, 2, 3, 4, 0] rfl ?_
        exact ih y18_1 y18_2 y18_3 (y18_4 + 1) u22 hf
def S_X6_exchange (n : Nat) (x1 : Int32) (x2 : Int32) (st : MSt) : Option (Int32 × MSt) :=
  (S_X6_isLetter x1 st).bind fun q1 =>
  if q1 = 0 then
    (S_X6_goes 0 1 1 st).bind fun q3 =>
    if q3.1 = 0 then
      some (0, q3.2)
    else
      (S_X6_records n q3.2).bind fun q5 =>
      S_X6_exchange_c41
        (fun y14_1 y14_2 y14_3 u15 => 
            S_X6_exchange_c127 n y14_1 y14_2 y14_3 0 u15)
         n x1 x2 0 0 q5
  else
    (S_X6_isLetter x2 st).bind fun q23 =>
    if q23 = 0 then
      (S_X6_goes 0 1 1 st).bind fun q25 =>
      if q25.1 = 0 then
        some (0, q25.2)
      else
        (S_X6_records n q25.2).bind fun q27 =>
        S_X6_exchange_c41
          (fun y28_1 y28_2 y28_3 u29 => 
              S_X6_exchange_c127 n y28_1 y28_2 y28_3 0 u29)
           n x1 x2 0 0 q27
    else
      (S_X6_goes 1 1 1 st).bind fun q30 =>
      if q30.1 = 0 then
        some (0, q30.2)
      else
        (S_X6_records n q30.2).bind fun q32 =>
        S_X6_exchange_c41
          (fun y33_1 y33_2 y33_3 u34 => 
              S_X6_exchange_c127 n y33_1 y33_2 y33_3 0 u34)
           n x1 x2 0 0 q32
set_option maxHeartbeats 2000000 in
theorem C_X6_exchange {l : Launch} {G : aG} {ad : Nat → Nat} {h0 : aH} (hok : mOk ad) (hl : l.stackTraces = false) {n : Nat} {x1 : Int32} {x2 : Int32} {st : MSt} {r : Int32 × MSt} (hf : S_X6_exchange n x1 x2 st = some r) : aC l G mX6_exchange (ws_ yX6_exchange cX6_exchange 7 (some .int)) 2 0 0 [.ref (ad 13), .int x1, .int x2] (mh ad st h0) (aP1 (some (.int r.1)) (mh ad r.2 h0)) := by
  refine aC_of (M := mX6_exchange) rfl (by decide) (Nat.le_of_ble_eq_true rfl) hl ?_
  rw [S_X6_exchange] at hf
  refine aw_eqv (lv2 := [(0, .ref (ad 13)), (1, .int x1), (2, .int x2)]) rfl rfl rfl rfl ?_
  refine aw_aload_n 0 dX6_exchange_0 rfl rfl ?_
  refine aw_aload_n 0 dX6_exchange_1 rfl rfl ?_
  refine aw_iload_n 1 dX6_exchange_2 rfl rfl ?_
  obtain ⟨q1, eq1, hf⟩ := Option.bind_eq_some_iff.mp hf
  refine aw_callV (rest := [.ref (ad 13)]) (C_X6_isLetter hok hl eq1) (mg_o hok) rfl rfl nX6_isLetter q1853 q1855 qs60 q137 q1856 dX6_exchange_3 rfl (by decide) (by decide) (Nat.le_of_ble_eq_true rfl) (Nat.le_refl _) (Nat.le_refl _) (aP1_i ?_) aP1_x
  refine aw_if_eq 21 dX6_exchange_6 (by decide) (fun c2 => ?_) (fun c2 => ?_)
  · have hf := it_t c2 hf
    refine aw_iconst (v := 0) dX6_exchange_21 (by decide) ?_
    refine aw_iconst (v := 1) dX6_exchange_22 (by decide) ?_
    refine aw_iconst (v := 1) dX6_exchange_23 (by decide) ?_
    obtain ⟨q3, eq3, hf⟩ := Option.bind_eq_some_iff.mp hf
    refine aw_callV (rest := []) (C_X6_goes hok hl eq3) (mg_o hok) rfl rfl nX6_goes q1825 q1827 qs55 q137 q1828 dX6_exchange_24 rfl (by decide) (by decide) (Nat.le_of_ble_eq_true rfl) (Nat.le_refl _) (Nat.le_refl _) (aP1_i ?_) aP1_x
    refine aw_if_ne 32 dX6_exchange_27 (by decide) (fun c4 => ?_) (fun c4 => ?_)
    · have hf := it_f c4 hf
      refine aw_aload_n 0 dX6_exchange_32 rfl rfl ?_
      obtain ⟨q5, eq5, hf⟩ := Option.bind_eq_some_iff.mp hf
      refine aw_callV (rest := []) (C_X6_records hok hl eq5) (mg_o hok) rfl rfl nX6_records q1829 q1831 qs56 q137 q1832 dX6_exchange_33 rfl (by decide) (by decide) (Nat.le_of_ble_eq_true rfl) (Nat.le_refl _) (Nat.le_refl _) (aP1_v ?_) aP1_x
      refine aw_iconst (v := 0) dX6_exchange_36 (by decide) ?_
      refine aw_istore_n (lv' := [(3, .int 0), (0, .ref (ad 13)), (1, .int x1), (2, .int x2)]) dX6_exchange_37 rfl (Nat.le_of_ble_eq_true rfl) rfl ?_
      refine aw_iconst (v := 0) dX6_exchange_38 (by decide) ?_
      refine aw_istore (lv' := [(4, .int 0), (3, .int 0), (0, .ref (ad 13)), (1, .int x1), (2, .int x2)]) dX6_exchange_39 (Nat.le_of_ble_eq_true rfl) rfl ?_
      refine aw_sub [2, 3, 4, 1, 0] rfl ?_
      refine A_X6_exchange_c41 hok hl ?_ n x1 x2 0 0 q5 hf
      · intro y14_1 y14_2 y14_3 u15 hf
        refine aw_iconst (v := 0) dX6_exchange_124 (by decide) ?_
        refine aw_istore (lv' := [(4, .int 0), (0, .ref (ad 13)), (1, .int y14_1), (2, .int y14_2), (3, .int y14_3)]) dX6_exchange_125 (Nat.le_of_ble_eq_true rfl) rfl ?_
        refine aw_sub [1, 2, 3, 4, 0] rfl ?_
        exact A_X6_exchange_c127 hok hl n y14_1 y14_2 y14_3 0 u15 hf
    · have hf := it_t c4 hf
      refine aw_iconst (v := 0) dX6_exchange_30 (by decide) ?_
      cases hf
      exact aw_iret rfl dX6_exchange_31 aP1_rfl (Nat.le_refl _) (Nat.le_refl _)
  · have hf := it_f c2 hf
    refine aw_aload_n 0 dX6_exchange_9 rfl rfl ?_
    refine aw_iload_n 2 dX6_exchange_10 rfl rfl ?_
    obtain ⟨q23, eq23, hf⟩ := Option.bind_eq_some_iff.mp hf
    refine aw_callV (rest := [.ref (ad 13)]) (C_X6_isLetter hok hl eq23) (mg_o hok) rfl rfl nX6_isLetter q1853 q1855 qs60 q137 q1856 dX6_exchange_11 rfl (by decide) (by decide) (Nat.le_of_ble_eq_true rfl) (Nat.le_refl _) (Nat.le_refl _) (aP1_i ?_) aP1_x
    refine aw_if_eq 21 dX6_exchange_14 (by decide) (fun c24 => ?_) (fun c24 => ?_)
    · have hf := it_t c24 hf
      refine aw_iconst (v := 0) dX6_exchange_21 (by decide) ?_
      refine aw_iconst (v := 1) dX6_exchange_22 (by decide) ?_
      refine aw_iconst (v := 1) dX6_exchange_23 (by decide) ?_
      obtain ⟨q25, eq25, hf⟩ := Option.bind_eq_some_iff.mp hf
      refine aw_callV (rest := []) (C_X6_goes hok hl eq25) (mg_o hok) rfl rfl nX6_goes q1825 q1827 qs55 q137 q1828 dX6_exchange_24 rfl (by decide) (by decide) (Nat.le_of_ble_eq_true rfl) (Nat.le_refl _) (Nat.le_refl _) (aP1_i ?_) aP1_x
      refine aw_if_ne 32 dX6_exchange_27 (by decide) (fun c26 => ?_) (fun c26 => ?_)
      · have hf := it_f c26 hf
        refine aw_aload_n 0 dX6_exchange_32 rfl rfl ?_
        obtain ⟨q27, eq27, hf⟩ := Option.bind_eq_some_iff.mp hf
        refine aw_callV (rest := []) (C_X6_records hok hl eq27) (mg_o hok) rfl rfl nX6_records q1829 q1831 qs56 q137 q1832 dX6_exchange_33 rfl (by decide) (by decide) (Nat.le_of_ble_eq_true rfl) (Nat.le_refl _) (Nat.le_refl _) (aP1_v ?_) aP1_x
        refine aw_iconst (v := 0) dX6_exchange_36 (by decide) ?_
        refine aw_istore_n (lv' := [(3, .int 0), (0, .ref (ad 13)), (1, .int x1), (2, .int x2)]) dX6_exchange_37 rfl (Nat.le_of_ble_eq_true rfl) rfl ?_
        refine aw_iconst (v := 0) dX6_exchange_38 (by decide) ?_
        refine aw_istore (lv' := [(4, .int 0), (3, .int 0), (0, .ref (ad 13)), (1, .int x1), (2, .int x2)]) dX6_exchange_39 (Nat.le_of_ble_eq_true rfl) rfl ?_
        refine aw_sub [2, 3, 4, 1, 0] rfl ?_
        refine A_X6_exchange_c41 hok hl ?_ n x1 x2 0 0 q27 hf
        · intro y28_1 y28_2 y28_3 u29 hf
          refine aw_iconst (v := 0) dX6_exchange_124 (by decide) ?_
          refine aw_istore (lv' := [(4, .int 0), (0, .ref (ad 13)), (1, .int y28_1), (2, .int y28_2), (3, .int y28_3)]) dX6_exchange_125 (Nat.le_of_ble_eq_true rfl) rfl ?_
          refine aw_sub [1, 2, 3, 4, 0] rfl ?_
          exact A_X6_exchange_c127 hok hl n y28_1 y28_2 y28_3 0 u29 hf
      · have hf := it_t c26 hf
        refine aw_iconst (v := 0) dX6_exchange_30 (by decide) ?_
        cases hf
        exact aw_iret rfl dX6_exchange_31 aP1_rfl (Nat.le_refl _) (Nat.le_refl _)
    · have hf := it_f c24 hf
      refine aw_iconst (v := 1) dX6_exchange_17 (by decide) ?_
      refine aw_goto 22 dX6_exchange_18 (by decide) ?_
      refine aw_iconst (v := 1) dX6_exchange_22 (by decide) ?_
      refine aw_iconst (v := 1) dX6_exchange_23 (by decide) ?_
      obtain ⟨q30, eq30, hf⟩ := Option.bind_eq_some_iff.mp hf
      refine aw_callV (rest := []) (C_X6_goes hok hl eq30) (mg_o hok) rfl rfl nX6_goes q1825 q1827 qs55 q137 q1828 dX6_exchange_24 rfl (by decide) (by decide) (Nat.le_of_ble_eq_true rfl) (Nat.le_refl _) (Nat.le_refl _) (aP1_i ?_) aP1_x
      refine aw_if_ne 32 dX6_exchange_27 (by decide) (fun c31 => ?_) (fun c31 => ?_)
      · have hf := it_f c31 hf
        refine aw_aload_n 0 dX6_exchange_32 rfl rfl ?_
        obtain ⟨q32, eq32, hf⟩ := Option.bind_eq_some_iff.mp hf
        refine aw_callV (rest := []) (C_X6_records hok hl eq32) (mg_o hok) rfl rfl nX6_records q1829 q1831 qs56 q137 q1832 dX6_exchange_33 rfl (by decide) (by decide) (Nat.le_of_ble_eq_true rfl) (Nat.le_refl _) (Nat.le_refl _) (aP1_v ?_) aP1_x
        refine aw_iconst (v := 0) dX6_exchange_36 (by decide) ?_
        refine aw_istore_n (lv' := [(3, .int 0), (0, .ref (ad 13)), (1, .int x1), (2, .int x2)]) dX6_exchange_37 rfl (Nat.le_of_ble_eq_true rfl) rfl ?_
        refine aw_iconst (v := 0) dX6_exchange_38 (by decide) ?_
        refine aw_istore (lv' := [(4, .int 0), (3, .int 0), (0, .ref (ad 13)), (1, .int x1), (2, .int x2)]) dX6_exchange_39 (Nat.le_of_ble_eq_true rfl) rfl ?_
        refine aw_sub [2, 3, 4, 1, 0] rfl ?_
        refine A_X6_exchange_c41 hok hl ?_ n x1 x2 0 0 q32 hf
        · intro y33_1 y33_2 y33_3 u34 hf
          refine aw_iconst (v := 0) dX6_exchange_124 (by decide) ?_
          refine aw_istore (lv' := [(4, .int 0), (0, .ref (ad 13)), (1, .int y33_1), (2, .int y33_2), (3, .int y33_3)]) dX6_exchange_125 (Nat.le_of_ble_eq_true rfl) rfl ?_
          refine aw_sub [1, 2, 3, 4, 0] rfl ?_
          exact A_X6_exchange_c127 hok hl n y33_1 y33_2 y33_3 0 u34 hf
      · have hf := it_t c31 hf
        refine aw_iconst (v := 0) dX6_exchange_30 (by decide) ?_
        cases hf
        exact aw_iret rfl dX6_exchange_31 aP1_rfl (Nat.le_refl _) (Nat.le_refl _)
abbrev mX6_swaps : aM := (yX6_swaps, cX6_swaps, 4, none, [])
theorem nX6_swaps : aNoMH yX6_swaps 2 := by decide +kernel
def S_X6_swaps (x1 : Int32) (x2 : Int32) (st : MSt) : Option (MSt) :=
  ob x1 432 fun j1 =>
  onm (st.2.1 0 j1) fun v3 =>
  ob x2 432 fun j4 =>
  ob x1 432 fun j6 =>
  onm (mA st 0 j6 (st.2.1 0 j4)) fun u8 =>
  ob x2 432 fun j9 =>
  onm (mA u8 0 j9 v3) fun u11 =>
  some u11
set_option maxHeartbeats 2000000 in
theorem C_X6_swaps {l : Launch} {G : aG} {ad : Nat → Nat} {h0 : aH} (hok : mOk ad) (hl : l.stackTraces = false) {x1 : Int32} {x2 : Int32} {st : MSt} {r : MSt} (hf : S_X6_swaps x1 x2 st = some r) : aC l G mX6_swaps (ws_ yX6_swaps cX6_swaps 4 none) 0 0 0 [.ref (ad 13), .int x1, .int x2] (mh ad st h0) (aP1 none (mh ad r h0)) := by
  refine aC_of (M := mX6_swaps) rfl (by decide) (Nat.le_of_ble_eq_true rfl) hl ?_
  rw [S_X6_swaps] at hf
  refine aw_eqv (lv2 := [(0, .ref (ad 13)), (1, .int x1), (2, .int x2)]) rfl rfl rfl rfl ?_
  refine aw_aload_n 0 dX6_swaps_0 rfl rfl ?_
  refine aw_get (v := .ref (ad 0)) (mg_o hok) rfl in_X6 0 (by decide) q1739 (Or.inl rfl) rfl dX6_swaps_1 ?_
  refine aw_iload_n 1 dX6_swaps_4 rfl rfl ?_
  obtain ⟨j1, z2, ej1, hf⟩ := ob_s hf
  refine aw_ialdj (mg_0 hok) z2 ej1 dX6_swaps_5 ?_
  refine aw_topi (fun v3 ev3 => ?_)
  have hf := onm_a ev3 hf
  refine aw_istore_n (lv' := [(3, .int v3), (0, .ref (ad 13)), (1, .int x1), (2, .int x2)]) dX6_swaps_6 rfl (Nat.le_of_ble_eq_true rfl) rfl ?_
  refine aw_aload_n 1 dX6_swaps_7 rfl rfl ?_
  refine aw_get (v := .ref (ad 0)) (mg_o hok) rfl in_X6 0 (by decide) q1739 (Or.inl rfl) rfl dX6_swaps_8 ?_
  refine aw_iload_n 2 dX6_swaps_11 rfl rfl ?_
  refine aw_aload_n 1 dX6_swaps_12 rfl rfl ?_
  refine aw_get (v := .ref (ad 0)) (mg_o hok) rfl in_X6 0 (by decide) q1739 (Or.inl rfl) rfl dX6_swaps_13 ?_
  refine aw_iload_n 3 dX6_swaps_16 rfl rfl ?_
  obtain ⟨j4, z5, ej4, hf⟩ := ob_s hf
  refine aw_ialdj (mg_0 hok) z5 ej4 dX6_swaps_17 ?_
  obtain ⟨j6, z7, ej6, hf⟩ := ob_s hf
  refine aw_iastj (mg_0 hok) z7 ej6 (mu_0 hok) dX6_swaps_18 ?_
  refine aw_st (fun u8 eu8 => ?_)
  have hf := onm_a eu8 hf
  refine aw_aload_n 1 dX6_swaps_19 rfl rfl ?_
  refine aw_get (v := .ref (ad 0)) (mg_o hok) rfl in_X6 0 (by decide) q1739 (Or.inl rfl) rfl dX6_swaps_20 ?_
  refine aw_iload_n 3 dX6_swaps_23 rfl rfl ?_
  refine aw_iload_n 0 dX6_swaps_24 rfl rfl ?_
  obtain ⟨j9, z10, ej9, hf⟩ := ob_s hf
  refine aw_iastj (mg_0 hok) z10 ej9 (mu_0 hok) dX6_swaps_25 ?_
  refine aw_st (fun u11 eu11 => ?_)
  have hf := onm_a eu11 hf
  cases hf
  exact aw_vret rfl dX6_swaps_26 aP1_rfl (Nat.le_refl _) (Nat.le_refl _)
