/-! the model: shallow functions and walks (printed by gen.py) -/
set_option maxRecDepth 100000
abbrev mX6_all : aM := (yX6_all, cX6_all, 1, some .int, [])
theorem nX6_all : aNoMH yX6_all 0 := by decide +kernel
def S_X6_all (st : MSt) : Option (Int32) :=
  some (((1 : Int32) <<< (((st.2.1 0 1) + (1 : Int32)) &&& 31)) - (1 : Int32))
set_option maxHeartbeats 2000000 in
theorem C_X6_all {l : Launch} {G : aG} {ad : Nat → Nat} {h0 : aH} (hok : mOk ad) (hl : l.stackTraces = false) {st : MSt} {r : Int32} (hf : S_X6_all st = some r) : aC l G mX6_all (ws_ yX6_all cX6_all 1 (some .int)) 0 0 0 [.ref (ad 13)] (mh ad st h0) (aP1 (some (.int r)) (mh ad st h0)) := by
  refine aC_of (M := mX6_all) rfl (by decide) (Nat.le_of_ble_eq_true rfl) hl ?_
  rw [S_X6_all] at hf
  refine aw_eqv (lv2 := [(0, .ref (ad 13))]) rfl rfl rfl rfl ?_
  refine aw_iconst (v := 1) dX6_all_0 (by decide) ?_
  refine aw_aload_n 0 dX6_all_1 rfl rfl ?_
  refine aw_get (v := .ref (ad 0)) (mg_o hok) rfl in_X6 0 (by decide) q1739 (Or.inl rfl) rfl dX6_all_2 ?_
  refine aw_iconst (v := 1) dX6_all_5 (by decide) ?_
  refine aw_ialdj (j := 1) (mg_0 hok) (vpc (by decide)) (by decide) dX6_all_6 ?_
  refine aw_iconst (v := 1) dX6_all_7 (by decide) ?_
  refine aw_iadd dX6_all_8 ?_
  refine aw_ishl dX6_all_9 ?_
  refine aw_iconst (v := 1) dX6_all_10 (by decide) ?_
  refine aw_isub dX6_all_11 ?_
  cases hf
  exact aw_iret rfl dX6_all_12 aP1_rfl (Nat.le_refl _) (Nat.le_refl _)
abbrev mX6_cells : aM := (yX6_cells, cX6_cells, 1, some .int, [])
theorem nX6_cells : aNoMH yX6_cells 0 := by decide +kernel
def S_X6_cells (st : MSt) : Option (Int32) :=
  some ((st.2.1 0 0) * (st.2.1 0 0))
set_option maxHeartbeats 2000000 in
theorem C_X6_cells {l : Launch} {G : aG} {ad : Nat → Nat} {h0 : aH} (hok : mOk ad) (hl : l.stackTraces = false) {st : MSt} {r : Int32} (hf : S_X6_cells st = some r) : aC l G mX6_cells (ws_ yX6_cells cX6_cells 1 (some .int)) 0 0 0 [.ref (ad 13)] (mh ad st h0) (aP1 (some (.int r)) (mh ad st h0)) := by
  refine aC_of (M := mX6_cells) rfl (by decide) (Nat.le_of_ble_eq_true rfl) hl ?_
  rw [S_X6_cells] at hf
  refine aw_eqv (lv2 := [(0, .ref (ad 13))]) rfl rfl rfl rfl ?_
  refine aw_aload_n 0 dX6_cells_0 rfl rfl ?_
  refine aw_get (v := .ref (ad 0)) (mg_o hok) rfl in_X6 0 (by decide) q1739 (Or.inl rfl) rfl dX6_cells_1 ?_
  refine aw_iconst (v := 0) dX6_cells_4 (by decide) ?_
  refine aw_ialdj (j := 0) (mg_0 hok) (vpc (by decide)) (by decide) dX6_cells_5 ?_
  refine aw_aload_n 0 dX6_cells_6 rfl rfl ?_
  refine aw_get (v := .ref (ad 0)) (mg_o hok) rfl in_X6 0 (by decide) q1739 (Or.inl rfl) rfl dX6_cells_7 ?_
  refine aw_iconst (v := 0) dX6_cells_10 (by decide) ?_
  refine aw_ialdj (j := 0) (mg_0 hok) (vpc (by decide)) (by decide) dX6_cells_11 ?_
  refine aw_imul dX6_cells_12 ?_
  cases hf
  exact aw_iret rfl dX6_cells_13 aP1_rfl (Nat.le_refl _) (Nat.le_refl _)
abbrev mX6_begins : aM := (yX6_begins, cX6_begins, 4, some .int, [])
theorem nX6_begins : aNoMH yX6_begins 2 := by decide +kernel
def S_X6_begins_c23 (K44 : MSt → Option (Int32 × MSt)) : Nat → Int32 → MSt → Option (Int32 × MSt)
  | 0, _, _ => none
  | n + 1, x3, st =>
    if 20 ≤ x3 then
      K44 st
    else
      ob ((3 : Int32) + x3) 432 fun j5 =>
      onm (mA st 0 j5 0) fun u7 =>
      S_X6_begins_c23 K44 n (x3 + 1) u7
set_option maxHeartbeats 2000000 in
theorem A_X6_begins_c23 {l : Launch} {G : aG} {ad : Nat → Nat} {h0 : aH} (hok : mOk ad) (hl : l.stackTraces = false) {r : Int32 × MSt} {K44 : MSt → Option (Int32 × MSt)} (hK44 : ∀ (st : MSt), K44 st = some r → AW l G mX6_begins 1 0 0 (aP1 (some (.int r.1)) (mh ad r.2 h0)) 44 [(0, .ref (ad 13))] [] (mh ad st h0) 0 0) : ∀ (n : Nat) (x3 : Int32) (st : MSt), S_X6_begins_c23 K44 n x3 st = some r → AW l G mX6_begins 1 0 0 (aP1 (some (.int r.1)) (mh ad r.2 h0)) 23 [(0, .ref (ad 13)), (3, .int x3)] [] (mh ad st h0) 0 0 := by
  intro n
  induction n with
  | zero =>
    intro x3 st hf
    rw [S_X6_begins_c23] at hf
    cases hf
  | succ n ih =>
    intro x3 st hf
    rw [S_X6_begins_c23] at hf
    refine aw_iload_n 1 dX6_begins_23 rfl rfl ?_
    refine aw_bipush (v := 20) dX6_begins_24 (by decide) ?_
    refine aw_icmp_ge 44 dX6_begins_26 (by decide) (fun c4 => ?_) (fun c4 => ?_)
    · have hf := it_t c4 hf
      refine aw_sub [0] rfl ?_
      exact hK44 st hf
    · have hf := it_f c4 hf
      refine aw_aload_n 0 dX6_begins_29 rfl rfl ?_
      refine aw_get (v := .ref (ad 0)) (mg_o hok) rfl in_X6 0 (by decide) q1739 (Or.inl rfl) rfl dX6_begins_30 ?_
      refine aw_iconst (v := 3) dX6_begins_33 (by decide) ?_
      refine aw_iload_n 1 dX6_begins_34 rfl rfl ?_
      refine aw_iadd dX6_begins_35 ?_
      refine aw_iconst (v := 0) dX6_begins_36 (by decide) ?_
      obtain ⟨j5, z6, ej5, hf⟩ := ob_s hf
      refine aw_iastj (mg_0 hok) z6 ej5 (mu_0 hok) dX6_begins_37 ?_
      refine aw_st (fun u7 eu7 => ?_)
      have hf := onm_a eu7 hf
      refine aw_iinc 1 (v := x3 + 1) (lv' := [(3, .int (x3 + 1)), (0, .ref (ad 13))]) dX6_begins_38 rfl rfl (Nat.le_of_ble_eq_true rfl) rfl ?_
      refine aw_goto 23 dX6_begins_41 (by decide) ?_
      refine aw_sub [1, 0] rfl ?_
      exact ih (x3 + 1) u7 hf
def S_X6_begins_c46 (K71 : MSt → Option (Int32 × MSt)) : Nat → Int32 → MSt → Option (Int32 × MSt)
  | 0, _, _ => none
  | n + 1, x3, st =>
    if 25 ≤ x3 then
      K71 st
    else
      (S_X6_all st).bind fun q11 =>
      ob ((23 : Int32) + x3) 432 fun j12 =>
      onm (mA st 0 j12 q11) fun u14 =>
      S_X6_begins_c46 K71 n (x3 + 1) u14
set_option maxHeartbeats 2000000 in
theorem A_X6_begins_c46 {l : Launch} {G : aG} {ad : Nat → Nat} {h0 : aH} (hok : mOk ad) (hl : l.stackTraces = false) {r : Int32 × MSt} {K71 : MSt → Option (Int32 × MSt)} (hK71 : ∀ (st : MSt), K71 st = some r → AW l G mX6_begins 1 0 0 (aP1 (some (.int r.1)) (mh ad r.2 h0)) 71 [(0, .ref (ad 13))] [] (mh ad st h0) 0 0) : ∀ (n : Nat) (x3 : Int32) (st : MSt), S_X6_begins_c46 K71 n x3 st = some r → AW l G mX6_begins 1 0 0 (aP1 (some (.int r.1)) (mh ad r.2 h0)) 46 [(0, .ref (ad 13)), (3, .int x3)] [] (mh ad st h0) 0 0 := by
  intro n
  induction n with
  | zero =>
    intro x3 st hf
    rw [S_X6_begins_c46] at hf
    cases hf
  | succ n ih =>
    intro x3 st hf
    rw [S_X6_begins_c46] at hf
    refine aw_iload_n 1 dX6_begins_46 rfl rfl ?_
    refine aw_bipush (v := 25) dX6_begins_47 (by decide) ?_
    refine aw_icmp_ge 71 dX6_begins_49 (by decide) (fun c10 => ?_) (fun c10 => ?_)
    · have hf := it_t c10 hf
      refine aw_sub [0] rfl ?_
      exact hK71 st hf
    · have hf := it_f c10 hf
      refine aw_aload_n 0 dX6_begins_52 rfl rfl ?_
      refine aw_get (v := .ref (ad 0)) (mg_o hok) rfl in_X6 0 (by decide) q1739 (Or.inl rfl) rfl dX6_begins_53 ?_
      refine aw_bipush (v := 23) dX6_begins_56 (by decide) ?_
      refine aw_iload_n 1 dX6_begins_58 rfl rfl ?_
      refine aw_iadd dX6_begins_59 ?_
      refine aw_aload_n 0 dX6_begins_60 rfl rfl ?_
      obtain ⟨q11, eq11, hf⟩ := Option.bind_eq_some_iff.mp hf
      refine aw_callV (rest := [.int ((23 : Int32) + x3), .ref (ad 0)]) (C_X6_all hok hl eq11) (mg_o hok) rfl rfl nX6_all q1731 q1733 qs53 q137 q1734 dX6_begins_61 rfl (by decide) (by decide) (Nat.le_of_ble_eq_true rfl) (Nat.le_refl _) (Nat.le_refl _) (aP1_i ?_) aP1_x
      obtain ⟨j12, z13, ej12, hf⟩ := ob_s hf
      refine aw_iastj (mg_0 hok) z13 ej12 (mu_0 hok) dX6_begins_64 ?_
      refine aw_st (fun u14 eu14 => ?_)
      have hf := onm_a eu14 hf
      refine aw_iinc 1 (v := x3 + 1) (lv' := [(3, .int (x3 + 1)), (0, .ref (ad 13))]) dX6_begins_65 rfl rfl (Nat.le_of_ble_eq_true rfl) rfl ?_
      refine aw_goto 46 dX6_begins_68 (by decide) ?_
      refine aw_sub [1, 0] rfl ?_
      exact ih (x3 + 1) u14 hf
def S_X6_begins (n : Nat) (x1 : Int32) (x2 : Int32) (st : MSt) : Option (Int32 × MSt) :=
  onm (mA st 0 0 x1) fun u1 =>
  onm (mA u1 0 1 x2) fun u2 =>
  onm (mA u2 0 2 0) fun u3 =>
  S_X6_begins_c23
    (fun u9 => 
        S_X6_begins_c46
          (fun u16 => 
              (S_X6_cells u16).bind fun q17 =>
              some (q17, u16))
           n 0 u9)
     n 0 u3
set_option maxHeartbeats 2000000 in
theorem C_X6_begins {l : Launch} {G : aG} {ad : Nat → Nat} {h0 : aH} (hok : mOk ad) (hl : l.stackTraces = false) {n : Nat} {x1 : Int32} {x2 : Int32} {st : MSt} {r : Int32 × MSt} (hf : S_X6_begins n x1 x2 st = some r) : aC l G mX6_begins (ws_ yX6_begins cX6_begins 4 (some .int)) 1 0 0 [.ref (ad 13), .int x1, .int x2] (mh ad st h0) (aP1 (some (.int r.1)) (mh ad r.2 h0)) := by
  refine aC_of (M := mX6_begins) rfl (by decide) (Nat.le_of_ble_eq_true rfl) hl ?_
  rw [S_X6_begins] at hf
  refine aw_eqv (lv2 := [(0, .ref (ad 13)), (1, .int x1), (2, .int x2)]) rfl rfl rfl rfl ?_
  refine aw_aload_n 0 dX6_begins_0 rfl rfl ?_
  refine aw_get (v := .ref (ad 0)) (mg_o hok) rfl in_X6 0 (by decide) q1739 (Or.inl rfl) rfl dX6_begins_1 ?_
  refine aw_iconst (v := 0) dX6_begins_4 (by decide) ?_
  refine aw_iload_n 1 dX6_begins_5 rfl rfl ?_
  refine aw_iastj (j := 0) (mg_0 hok) (vpc (by decide)) (by decide) (mu_0 hok) dX6_begins_6 ?_
  refine aw_st (fun u1 eu1 => ?_)
  have hf := onm_a eu1 hf
  refine aw_aload_n 0 dX6_begins_7 rfl rfl ?_
  refine aw_get (v := .ref (ad 0)) (mg_o hok) rfl in_X6 0 (by decide) q1739 (Or.inl rfl) rfl dX6_begins_8 ?_
  refine aw_iconst (v := 1) dX6_begins_11 (by decide) ?_
  refine aw_iload_n 2 dX6_begins_12 rfl rfl ?_
  refine aw_iastj (j := 1) (mg_0 hok) (vpc (by decide)) (by decide) (mu_0 hok) dX6_begins_13 ?_
  refine aw_st (fun u2 eu2 => ?_)
  have hf := onm_a eu2 hf
  refine aw_aload_n 0 dX6_begins_14 rfl rfl ?_
  refine aw_get (v := .ref (ad 0)) (mg_o hok) rfl in_X6 0 (by decide) q1739 (Or.inl rfl) rfl dX6_begins_15 ?_
  refine aw_iconst (v := 2) dX6_begins_18 (by decide) ?_
  refine aw_iconst (v := 0) dX6_begins_19 (by decide) ?_
  refine aw_iastj (j := 2) (mg_0 hok) (vpc (by decide)) (by decide) (mu_0 hok) dX6_begins_20 ?_
  refine aw_st (fun u3 eu3 => ?_)
  have hf := onm_a eu3 hf
  refine aw_iconst (v := 0) dX6_begins_21 (by decide) ?_
  refine aw_istore_n (lv' := [(3, .int 0), (0, .ref (ad 13)), (1, .int x1), (2, .int x2)]) dX6_begins_22 rfl (Nat.le_of_ble_eq_true rfl) rfl ?_
  refine aw_sub [1, 0] rfl ?_
  refine A_X6_begins_c23 hok hl ?_ n 0 u3 hf
  · intro u9 hf
    refine aw_iconst (v := 0) dX6_begins_44 (by decide) ?_
    refine aw_istore_n (lv' := [(3, .int 0), (0, .ref (ad 13))]) dX6_begins_45 rfl (Nat.le_of_ble_eq_true rfl) rfl ?_
    refine aw_sub [1, 0] rfl ?_
    refine A_X6_begins_c46 hok hl ?_ n 0 u9 hf
    · intro u16 hf
      refine aw_aload_n 0 dX6_begins_71 rfl rfl ?_
      obtain ⟨q17, eq17, hf⟩ := Option.bind_eq_some_iff.mp hf
      refine aw_callV (rest := []) (C_X6_cells hok hl eq17) (mg_o hok) rfl rfl nX6_cells q1735 q1737 qs54 q137 q1738 dX6_begins_72 rfl (by decide) (by decide) (Nat.le_of_ble_eq_true rfl) (Nat.le_refl _) (Nat.le_refl _) (aP1_i ?_) aP1_x
      cases hf
      exact aw_iret rfl dX6_begins_75 aP1_rfl (Nat.le_refl _) (Nat.le_refl _)
abbrev mX6_thrown : aM := (yX6_thrown, cX6_thrown, 1, some .int, [])
theorem nX6_thrown : aNoMH yX6_thrown 0 := by decide +kernel
def S_X6_thrown (st : MSt) : Option (Int32) :=
  some (st.1 2)
set_option maxHeartbeats 2000000 in
theorem C_X6_thrown {l : Launch} {G : aG} {ad : Nat → Nat} {h0 : aH} (hok : mOk ad) (hl : l.stackTraces = false) {st : MSt} {r : Int32} (hf : S_X6_thrown st = some r) : aC l G mX6_thrown (ws_ yX6_thrown cX6_thrown 1 (some .int)) 0 0 0 [.ref (ad 13)] (mh ad st h0) (aP1 (some (.int r)) (mh ad st h0)) := by
  refine aC_of (M := mX6_thrown) rfl (by decide) (Nat.le_of_ble_eq_true rfl) hl ?_
  rw [S_X6_thrown] at hf
  refine aw_eqv (lv2 := [(0, .ref (ad 13))]) rfl rfl rfl rfl ?_
  refine aw_aload_n 0 dX6_thrown_0 rfl rfl ?_
  refine aw_get (v := .int (st.1 2)) (mg_o hok) rfl in_X6 5 (by decide) q1744 (Or.inl rfl) rfl dX6_thrown_1 ?_
  cases hf
  exact aw_iret rfl dX6_thrown_4 aP1_rfl (Nat.le_refl _) (Nat.le_refl _)
abbrev mX6_in : aM := (yX6_in, cX6_in, 3, some .boolean, [])
theorem nX6_in : aNoMH yX6_in 3 := by decide +kernel
def S_X6_in (x0 : Int32) (x1 : Int32) (x2 : Int32) : Option (Int32) :=
  if x0 < x1 then
    some 0
  else
    if x2 < x0 then
      some 0
    else
      some 1
set_option maxHeartbeats 2000000 in
theorem C_X6_in {l : Launch} {G : aG} {h : aH} (hl : l.stackTraces = false) {x0 : Int32} {x1 : Int32} {x2 : Int32} {r : Int32} (hf : S_X6_in x0 x1 x2 = some r) : aC l G mX6_in (ws_ yX6_in cX6_in 3 (some .boolean)) 0 0 0 [.int x0, .int x1, .int x2] h (aP1 (some (.int r)) h) := by
  refine aC_of (M := mX6_in) rfl (by decide) (Nat.le_of_ble_eq_true rfl) hl ?_
  rw [S_X6_in] at hf
  refine aw_eqv (lv2 := [(0, .int x0), (1, .int x1), (2, .int x2)]) rfl rfl rfl rfl ?_
  refine aw_iload_n 0 dX6_in_0 rfl rfl ?_
  refine aw_iload_n 1 dX6_in_1 rfl rfl ?_
  refine aw_icmp_lt 14 dX6_in_2 (by decide) (fun c1 => ?_) (fun c1 => ?_)
  · have hf := it_t c1 hf
    refine aw_iconst (v := 0) dX6_in_14 (by decide) ?_
    cases hf
    exact aw_zret rfl rfl dX6_in_15 aP1_rfl (Nat.le_refl _) (Nat.le_refl _)
  · have hf := it_f c1 hf
    refine aw_iload_n 0 dX6_in_5 rfl rfl ?_
    refine aw_iload_n 2 dX6_in_6 rfl rfl ?_
    refine aw_icmp_gt 14 dX6_in_7 (by decide) (fun c2 => ?_) (fun c2 => ?_)
    · have hf := it_t c2 hf
      refine aw_iconst (v := 0) dX6_in_14 (by decide) ?_
      cases hf
      exact aw_zret rfl rfl dX6_in_15 aP1_rfl (Nat.le_refl _) (Nat.le_refl _)
    · have hf := it_f c2 hf
      refine aw_iconst (v := 1) dX6_in_10 (by decide) ?_
      refine aw_goto 15 dX6_in_11 (by decide) ?_
      cases hf
      exact aw_zret rfl rfl dX6_in_15 aP1_rfl (Nat.le_refl _) (Nat.le_refl _)
abbrev mX6_goes : aM := (yX6_goes, cX6_goes, 4, some .boolean, [])
theorem nX6_goes : aNoMH yX6_goes 3 := by decide +kernel
def S_X6_goes_j26 (xs0 : Int32) (st : MSt) : Option (Int32 × MSt) :=
  onm (mI st 2 xs0) fun u4 =>
  if (u4.1 2) = 0 then
    some (1, u4)
  else
    some (0, u4)
set_option maxHeartbeats 2000000 in
theorem A_X6_goes_j26 {l : Launch} {G : aG} {ad : Nat → Nat} {h0 : aH} (hok : mOk ad) (hl : l.stackTraces = false) {r : Int32 × MSt} : ∀ (xs0 : Int32) (st : MSt), S_X6_goes_j26 xs0 st = some r → AW l G mX6_goes 0 0 0 (aP1 (some (.int r.1)) (mh ad r.2 h0)) 26 [(0, .ref (ad 13))] [.int xs0, .ref (ad 13)] (mh ad st h0) 0 0 := by
  intro xs0 st hf
  rw [S_X6_goes_j26] at hf
  refine aw_put (mg_o hok) rfl in_X6 tyX6_ok nmX6 5 (by decide) q1744 (Or.inl rfl) rfl rfl rfl (Nat.le_of_ble_eq_true rfl) (mu_i2 hok) dX6_goes_26 ?_
  refine aw_st (fun u4 eu4 => ?_)
  have hf := onm_a eu4 hf
  refine aw_aload_n 0 dX6_goes_29 rfl rfl ?_
  refine aw_get (v := .int (u4.1 2)) (mg_o hok) rfl in_X6 5 (by decide) q1744 (Or.inl rfl) rfl dX6_goes_30 ?_
  refine aw_if_ne 40 dX6_goes_33 (by decide) (fun c5 => ?_) (fun c5 => ?_)
  · have hf := it_f c5 hf
    refine aw_iconst (v := 0) dX6_goes_40 (by decide) ?_
    cases hf
    exact aw_zret rfl rfl dX6_goes_41 aP1_rfl (Nat.le_refl _) (Nat.le_refl _)
  · have hf := it_t c5 hf
    refine aw_iconst (v := 1) dX6_goes_36 (by decide) ?_
    refine aw_goto 41 dX6_goes_37 (by decide) ?_
    cases hf
    exact aw_zret rfl rfl dX6_goes_41 aP1_rfl (Nat.le_refl _) (Nat.le_refl _)
def S_X6_goes (x1 : Int32) (x2 : Int32) (x3 : Int32) (st : MSt) : Option (Int32 × MSt) :=
  if x1 = 0 then
    S_X6_goes_j26 1 st
  else
    if x2 = 0 then
      S_X6_goes_j26 2 st
    else
      if x3 = 0 then
        S_X6_goes_j26 3 st
      else
        S_X6_goes_j26 0 st
set_option maxHeartbeats 2000000 in
theorem C_X6_goes {l : Launch} {G : aG} {ad : Nat → Nat} {h0 : aH} (hok : mOk ad) (hl : l.stackTraces = false) {x1 : Int32} {x2 : Int32} {x3 : Int32} {st : MSt} {r : Int32 × MSt} (hf : S_X6_goes x1 x2 x3 st = some r) : aC l G mX6_goes (ws_ yX6_goes cX6_goes 4 (some .boolean)) 0 0 0 [.ref (ad 13), .int x1, .int x2, .int x3] (mh ad st h0) (aP1 (some (.int r.1)) (mh ad r.2 h0)) := by
  refine aC_of (M := mX6_goes) rfl (by decide) (Nat.le_of_ble_eq_true rfl) hl ?_
  rw [S_X6_goes] at hf
  refine aw_eqv (lv2 := [(0, .ref (ad 13)), (1, .int x1), (2, .int x2), (3, .int x3)]) rfl rfl rfl rfl ?_
  refine aw_aload_n 0 dX6_goes_0 rfl rfl ?_
  refine aw_iload_n 1 dX6_goes_1 rfl rfl ?_
  refine aw_if_ne 9 dX6_goes_2 (by decide) (fun c1 => ?_) (fun c1 => ?_)
  · have hf := it_f c1 hf
    refine aw_iload_n 2 dX6_goes_9 rfl rfl ?_
    refine aw_if_ne 17 dX6_goes_10 (by decide) (fun c2 => ?_) (fun c2 => ?_)
    · have hf := it_f c2 hf
      refine aw_iload_n 3 dX6_goes_17 rfl rfl ?_
      refine aw_if_ne 25 dX6_goes_18 (by decide) (fun c3 => ?_) (fun c3 => ?_)
      · have hf := it_f c3 hf
        refine aw_iconst (v := 0) dX6_goes_25 (by decide) ?_
        refine aw_sub [0] rfl ?_
        exact A_X6_goes_j26 hok hl 0 st hf
      · have hf := it_t c3 hf
        refine aw_iconst (v := 3) dX6_goes_21 (by decide) ?_
        refine aw_goto 26 dX6_goes_22 (by decide) ?_
        refine aw_sub [0] rfl ?_
        exact A_X6_goes_j26 hok hl 3 st hf
    · have hf := it_t c2 hf
      refine aw_iconst (v := 2) dX6_goes_13 (by decide) ?_
      refine aw_goto 26 dX6_goes_14 (by decide) ?_
      refine aw_sub [0] rfl ?_
      exact A_X6_goes_j26 hok hl 2 st hf
  · have hf := it_t c1 hf
    refine aw_iconst (v := 1) dX6_goes_5 (by decide) ?_
    refine aw_goto 26 dX6_goes_6 (by decide) ?_
    refine aw_sub [0] rfl ?_
    exact A_X6_goes_j26 hok hl 1 st hf
abbrev mX6_copies : aM := (yX6_copies, cX6_copies, 4, none, [])
theorem nX6_copies : aNoMH yX6_copies 2 := by decide +kernel
def S_X6_copies_c2 : Nat → Int32 → Int32 → Int32 → MSt → Option (MSt)
  | 0, _, _, _, _ => none
  | n + 1, x1, x2, x3, st =>
    if 48 ≤ x3 then
      some st
    else
      ob (((48 : Int32) * x1) + x3) 432 fun j2 =>
      ob (((48 : Int32) * x2) + x3) 432 fun j4 =>
      onm (mA st 0 j4 (st.2.1 0 j2)) fun u6 =>
      S_X6_copies_c2 n x1 x2 (x3 + 1) u6
set_option maxHeartbeats 2000000 in
theorem A_X6_copies_c2 {l : Launch} {G : aG} {ad : Nat → Nat} {h0 : aH} (hok : mOk ad) (hl : l.stackTraces = false) {r : MSt} : ∀ (n : Nat) (x1 : Int32) (x2 : Int32) (x3 : Int32) (st : MSt), S_X6_copies_c2 n x1 x2 x3 st = some r → AW l G mX6_copies 0 0 0 (aP1 none (mh ad r h0)) 2 [(0, .ref (ad 13)), (1, .int x1), (2, .int x2), (3, .int x3)] [] (mh ad st h0) 0 0 := by
  intro n
  induction n with
  | zero =>
    intro x1 x2 x3 st hf
    rw [S_X6_copies_c2] at hf
    cases hf
  | succ n ih =>
    intro x1 x2 x3 st hf
    rw [S_X6_copies_c2] at hf
    refine aw_iload_n 3 dX6_copies_2 rfl rfl ?_
    refine aw_bipush (v := 48) dX6_copies_3 (by decide) ?_
    refine aw_icmp_ge 36 dX6_copies_5 (by decide) (fun c1 => ?_) (fun c1 => ?_)
    · have hf := it_t c1 hf
      cases hf
      exact aw_vret rfl dX6_copies_36 aP1_rfl (Nat.le_refl _) (Nat.le_refl _)
    · have hf := it_f c1 hf
      refine aw_aload_n 0 dX6_copies_8 rfl rfl ?_
      refine aw_get (v := .ref (ad 0)) (mg_o hok) rfl in_X6 0 (by decide) q1739 (Or.inl rfl) rfl dX6_copies_9 ?_
      refine aw_bipush (v := 48) dX6_copies_12 (by decide) ?_
      refine aw_iload_n 2 dX6_copies_14 rfl rfl ?_
      refine aw_imul dX6_copies_15 ?_
      refine aw_iload_n 3 dX6_copies_16 rfl rfl ?_
      refine aw_iadd dX6_copies_17 ?_
      refine aw_aload_n 0 dX6_copies_18 rfl rfl ?_
      refine aw_get (v := .ref (ad 0)) (mg_o hok) rfl in_X6 0 (by decide) q1739 (Or.inl rfl) rfl dX6_copies_19 ?_
      refine aw_bipush (v := 48) dX6_copies_22 (by decide) ?_
      refine aw_iload_n 1 dX6_copies_24 rfl rfl ?_
      refine aw_imul dX6_copies_25 ?_
      refine aw_iload_n 3 dX6_copies_26 rfl rfl ?_
      refine aw_iadd dX6_copies_27 ?_
      obtain ⟨j2, z3, ej2, hf⟩ := ob_s hf
      refine aw_ialdj (mg_0 hok) z3 ej2 dX6_copies_28 ?_
      obtain ⟨j4, z5, ej4, hf⟩ := ob_s hf
      refine aw_iastj (mg_0 hok) z5 ej4 (mu_0 hok) dX6_copies_29 ?_
      refine aw_st (fun u6 eu6 => ?_)
      have hf := onm_a eu6 hf
      refine aw_iinc 3 (v := x3 + 1) (lv' := [(3, .int (x3 + 1)), (0, .ref (ad 13)), (1, .int x1), (2, .int x2)]) dX6_copies_30 rfl rfl (Nat.le_of_ble_eq_true rfl) rfl ?_
      refine aw_goto 2 dX6_copies_33 (by decide) ?_
      refine aw_sub [1, 2, 3, 0] rfl ?_
      exact ih x1 x2 (x3 + 1) u6 hf
def S_X6_copies (n : Nat) (x1 : Int32) (x2 : Int32) (st : MSt) : Option (MSt) :=
  S_X6_copies_c2 n x1 x2 0 st
set_option maxHeartbeats 2000000 in
theorem C_X6_copies {l : Launch} {G : aG} {ad : Nat → Nat} {h0 : aH} (hok : mOk ad) (hl : l.stackTraces = false) {n : Nat} {x1 : Int32} {x2 : Int32} {st : MSt} {r : MSt} (hf : S_X6_copies n x1 x2 st = some r) : aC l G mX6_copies (ws_ yX6_copies cX6_copies 4 none) 0 0 0 [.ref (ad 13), .int x1, .int x2] (mh ad st h0) (aP1 none (mh ad r h0)) := by
  refine aC_of (M := mX6_copies) rfl (by decide) (Nat.le_of_ble_eq_true rfl) hl ?_
  rw [S_X6_copies] at hf
  refine aw_eqv (lv2 := [(0, .ref (ad 13)), (1, .int x1), (2, .int x2)]) rfl rfl rfl rfl ?_
  refine aw_iconst (v := 0) dX6_copies_0 (by decide) ?_
  refine aw_istore_n (lv' := [(3, .int 0), (0, .ref (ad 13)), (1, .int x1), (2, .int x2)]) dX6_copies_1 rfl (Nat.le_of_ble_eq_true rfl) rfl ?_
  refine aw_sub [1, 2, 3, 0] rfl ?_
  exact A_X6_copies_c2 hok hl n x1 x2 0 st hf
abbrev mX6_records : aM := (yX6_records, cX6_records, 2, none, [])
theorem nX6_records : aNoMH yX6_records 0 := by decide +kernel
def S_X6_records_c11 (K31 : MSt → Option (MSt)) : Nat → Int32 → MSt → Option (MSt)
  | 0, _, _ => none
  | n + 1, x1, st =>
    if 6 ≤ x1 then
      K31 st
    else
      (S_X6_copies n (x1 + (1 : Int32)) x1 st).bind fun q5 =>
      S_X6_records_c11 K31 n (x1 + 1) q5
set_option maxHeartbeats 2000000 in
theorem A_X6_records_c11 {l : Launch} {G : aG} {ad : Nat → Nat} {h0 : aH} (hok : mOk ad) (hl : l.stackTraces = false) {r : MSt} {K31 : MSt → Option (MSt)} (hK31 : ∀ (st : MSt), K31 st = some r → AW l G mX6_records 1 0 0 (aP1 none (mh ad r h0)) 31 [(0, .ref (ad 13))] [] (mh ad st h0) 0 0) : ∀ (n : Nat) (x1 : Int32) (st : MSt), S_X6_records_c11 K31 n x1 st = some r → AW l G mX6_records 1 0 0 (aP1 none (mh ad r h0)) 11 [(0, .ref (ad 13)), (1, .int x1)] [] (mh ad st h0) 0 0 := by
  intro n
  induction n with
  | zero =>
    intro x1 st hf
    rw [S_X6_records_c11] at hf
    cases hf
  | succ n ih =>
    intro x1 st hf
    rw [S_X6_records_c11] at hf
    refine aw_iload_n 1 dX6_records_11 rfl rfl ?_
    refine aw_bipush (v := 6) dX6_records_12 (by decide) ?_
    refine aw_icmp_ge 31 dX6_records_14 (by decide) (fun c4 => ?_) (fun c4 => ?_)
    · have hf := it_t c4 hf
      refine aw_sub [0] rfl ?_
      exact hK31 st hf
    · have hf := it_f c4 hf
      refine aw_aload_n 0 dX6_records_17 rfl rfl ?_
      refine aw_iload_n 1 dX6_records_18 rfl rfl ?_
      refine aw_iconst (v := 1) dX6_records_19 (by decide) ?_
      refine aw_iadd dX6_records_20 ?_
      refine aw_iload_n 1 dX6_records_21 rfl rfl ?_
      obtain ⟨q5, eq5, hf⟩ := Option.bind_eq_some_iff.mp hf
      refine aw_callV (rest := []) (C_X6_copies hok hl eq5) (mg_o hok) rfl rfl nX6_copies q1833 q1835 qs57 q137 q1836 dX6_records_22 rfl (by decide) (by decide) (Nat.le_of_ble_eq_true rfl) (Nat.le_refl _) (Nat.le_refl _) (aP1_v ?_) aP1_x
      refine aw_iinc 1 (v := x1 + 1) (lv' := [(1, .int (x1 + 1)), (0, .ref (ad 13))]) dX6_records_25 rfl rfl (Nat.le_of_ble_eq_true rfl) rfl ?_
      refine aw_goto 11 dX6_records_28 (by decide) ?_
      refine aw_sub [1, 0] rfl ?_
      exact ih (x1 + 1) q5 hf
def S_X6_records (n : Nat) (st : MSt) : Option (MSt) :=
  if (st.1 0) = 6 then
    S_X6_records_c11
      (fun u7 => 
          onm (mI u7 0 ((u7.1 0) - (1 : Int32))) fun u8 =>
          onm (mI u8 0 ((u8.1 0) + (1 : Int32))) fun u9 =>
          (S_X6_copies n 0 (u9.1 0) u9).bind fun q10 =>
          some q10)
       n 1 st
  else
    onm (mI st 0 ((st.1 0) + (1 : Int32))) fun u2 =>
    (S_X6_copies n 0 (u2.1 0) u2).bind fun q3 =>
    some q3
set_option maxHeartbeats 2000000 in
theorem C_X6_records {l : Launch} {G : aG} {ad : Nat → Nat} {h0 : aH} (hok : mOk ad) (hl : l.stackTraces = false) {n : Nat} {st : MSt} {r : MSt} (hf : S_X6_records n st = some r) : aC l G mX6_records (ws_ yX6_records cX6_records 2 none) 1 0 0 [.ref (ad 13)] (mh ad st h0) (aP1 none (mh ad r h0)) := by
  refine aC_of (M := mX6_records) rfl (by decide) (Nat.le_of_ble_eq_true rfl) hl ?_
  rw [S_X6_records] at hf
  refine aw_eqv (lv2 := [(0, .ref (ad 13))]) rfl rfl rfl rfl ?_
  refine aw_aload_n 0 dX6_records_0 rfl rfl ?_
  refine aw_get (v := .int (st.1 0)) (mg_o hok) rfl in_X6 1 (by decide) q1740 (Or.inl rfl) rfl dX6_records_1 ?_
  refine aw_bipush (v := 6) dX6_records_4 (by decide) ?_
  refine aw_icmp_ne 41 dX6_records_6 (by decide) (fun c1 => ?_) (fun c1 => ?_)
  · have hf := it_f c1 hf
    refine aw_aload_n 0 dX6_records_41 rfl rfl ?_
    refine aw_dup dX6_records_42 rfl ?_
    refine aw_get (v := .int (st.1 0)) (mg_o hok) rfl in_X6 1 (by decide) q1740 (Or.inl rfl) rfl dX6_records_43 ?_
    refine aw_iconst (v := 1) dX6_records_46 (by decide) ?_
    refine aw_iadd dX6_records_47 ?_
    refine aw_put (mg_o hok) rfl in_X6 tyX6_ok nmX6 1 (by decide) q1740 (Or.inl rfl) rfl rfl rfl (Nat.le_of_ble_eq_true rfl) (mu_i0 hok) dX6_records_48 ?_
    refine aw_st (fun u2 eu2 => ?_)
    have hf := onm_a eu2 hf
    refine aw_aload_n 0 dX6_records_51 rfl rfl ?_
    refine aw_iconst (v := 0) dX6_records_52 (by decide) ?_
    refine aw_aload_n 0 dX6_records_53 rfl rfl ?_
    refine aw_get (v := .int (u2.1 0)) (mg_o hok) rfl in_X6 1 (by decide) q1740 (Or.inl rfl) rfl dX6_records_54 ?_
    obtain ⟨q3, eq3, hf⟩ := Option.bind_eq_some_iff.mp hf
    refine aw_callV (rest := []) (C_X6_copies hok hl eq3) (mg_o hok) rfl rfl nX6_copies q1833 q1835 qs57 q137 q1836 dX6_records_57 rfl (by decide) (by decide) (Nat.le_of_ble_eq_true rfl) (Nat.le_refl _) (Nat.le_refl _) (aP1_v ?_) aP1_x
    cases hf
    exact aw_vret rfl dX6_records_60 aP1_rfl (Nat.le_refl _) (Nat.le_refl _)
  · have hf := it_t c1 hf
    refine aw_iconst (v := 1) dX6_records_9 (by decide) ?_
    refine aw_istore_n (lv' := [(1, .int 1), (0, .ref (ad 13))]) dX6_records_10 rfl (Nat.le_of_ble_eq_true rfl) rfl ?_
    refine aw_sub [1, 0] rfl ?_
    refine A_X6_records_c11 hok hl ?_ n 1 st hf
    · intro u7 hf
      refine aw_aload_n 0 dX6_records_31 rfl rfl ?_
      refine aw_dup dX6_records_32 rfl ?_
      refine aw_get (v := .int (u7.1 0)) (mg_o hok) rfl in_X6 1 (by decide) q1740 (Or.inl rfl) rfl dX6_records_33 ?_
      refine aw_iconst (v := 1) dX6_records_36 (by decide) ?_
      refine aw_isub dX6_records_37 ?_
      refine aw_put (mg_o hok) rfl in_X6 tyX6_ok nmX6 1 (by decide) q1740 (Or.inl rfl) rfl rfl rfl (Nat.le_of_ble_eq_true rfl) (mu_i0 hok) dX6_records_38 ?_
      refine aw_st (fun u8 eu8 => ?_)
      have hf := onm_a eu8 hf
      refine aw_aload_n 0 dX6_records_41 rfl rfl ?_
      refine aw_dup dX6_records_42 rfl ?_
      refine aw_get (v := .int (u8.1 0)) (mg_o hok) rfl in_X6 1 (by decide) q1740 (Or.inl rfl) rfl dX6_records_43 ?_
      refine aw_iconst (v := 1) dX6_records_46 (by decide) ?_
      refine aw_iadd dX6_records_47 ?_
      refine aw_put (mg_o hok) rfl in_X6 tyX6_ok nmX6 1 (by decide) q1740 (Or.inl rfl) rfl rfl rfl (Nat.le_of_ble_eq_true rfl) (mu_i0 hok) dX6_records_48 ?_
      refine aw_st (fun u9 eu9 => ?_)
      have hf := onm_a eu9 hf
      refine aw_aload_n 0 dX6_records_51 rfl rfl ?_
      refine aw_iconst (v := 0) dX6_records_52 (by decide) ?_
      refine aw_aload_n 0 dX6_records_53 rfl rfl ?_
      refine aw_get (v := .int (u9.1 0)) (mg_o hok) rfl in_X6 1 (by decide) q1740 (Or.inl rfl) rfl dX6_records_54 ?_
      obtain ⟨q10, eq10, hf⟩ := Option.bind_eq_some_iff.mp hf
      refine aw_callV (rest := []) (C_X6_copies hok hl eq10) (mg_o hok) rfl rfl nX6_copies q1833 q1835 qs57 q137 q1836 dX6_records_57 rfl (by decide) (by decide) (Nat.le_of_ble_eq_true rfl) (Nat.le_refl _) (Nat.le_refl _) (aP1_v ?_) aP1_x
      cases hf
      exact aw_vret rfl dX6_records_60 aP1_rfl (Nat.le_refl _) (Nat.le_refl _)
abbrev mX6_start : aM := (yX6_start, cX6_start, 3, some .int, [])
theorem nX6_start : aNoMH yX6_start 2 := by decide +kernel
def S_X6_start (n : Nat) (x1 : Int32) (x2 : Int32) (st : MSt) : Option (Int32 × MSt) :=
  (S_X6_in x1 4 5).bind fun q1 =>
  if q1 = 0 then
    (S_X6_goes 0 1 1 st).bind fun q3 =>
    if q3.1 = 0 then
      some (0, q3.2)
    else
      (S_X6_records n q3.2).bind fun q5 =>
      (S_X6_begins n x1 x2 q5).bind fun q6 =>
      some (q6.1, q6.2)
  else
    (S_X6_in x2 2 (x1 - (1 : Int32))).bind fun q7 =>
    if q7 = 0 then
      (S_X6_goes 0 1 1 st).bind fun q9 =>
      if q9.1 = 0 then
        some (0, q9.2)
      else
        (S_X6_records n q9.2).bind fun q11 =>
        (S_X6_begins n x1 x2 q11).bind fun q12 =>
        some (q12.1, q12.2)
    else
      (S_X6_goes 1 1 1 st).bind fun q13 =>
      if q13.1 = 0 then
        some (0, q13.2)
      else
        (S_X6_records n q13.2).bind fun q15 =>
        (S_X6_begins n x1 x2 q15).bind fun q16 =>
        some (q16.1, q16.2)
set_option maxHeartbeats 2000000 in
theorem C_X6_start {l : Launch} {G : aG} {ad : Nat → Nat} {h0 : aH} (hok : mOk ad) (hl : l.stackTraces = false) {n : Nat} {x1 : Int32} {x2 : Int32} {st : MSt} {r : Int32 × MSt} (hf : S_X6_start n x1 x2 st = some r) : aC l G mX6_start (ws_ yX6_start cX6_start 3 (some .int)) 2 0 0 [.ref (ad 13), .int x1, .int x2] (mh ad st h0) (aP1 (some (.int r.1)) (mh ad r.2 h0)) := by
  refine aC_of (M := mX6_start) rfl (by decide) (Nat.le_of_ble_eq_true rfl) hl ?_
  rw [S_X6_start] at hf
  refine aw_eqv (lv2 := [(0, .ref (ad 13)), (1, .int x1), (2, .int x2)]) rfl rfl rfl rfl ?_
  refine aw_aload_n 0 dX6_start_0 rfl rfl ?_
  refine aw_iload_n 1 dX6_start_1 rfl rfl ?_
  refine aw_iconst (v := 4) dX6_start_2 (by decide) ?_
  refine aw_iconst (v := 5) dX6_start_3 (by decide) ?_
  obtain ⟨q1, eq1, hf⟩ := Option.bind_eq_some_iff.mp hf
  refine aw_callS (rest := [.ref (ad 13)]) (C_X6_in hl eq1) nX6_in q1822 q1823 q137 q1824 dX6_start_4 rfl (by decide) (by decide) (Nat.le_of_ble_eq_true rfl) (Nat.le_refl _) (Nat.le_refl _) (aP1_i ?_) aP1_x
  refine aw_if_eq 25 dX6_start_7 (by decide) (fun c2 => ?_) (fun c2 => ?_)
  · have hf := it_t c2 hf
    refine aw_iconst (v := 0) dX6_start_25 (by decide) ?_
    refine aw_iconst (v := 1) dX6_start_26 (by decide) ?_
    refine aw_iconst (v := 1) dX6_start_27 (by decide) ?_
    obtain ⟨q3, eq3, hf⟩ := Option.bind_eq_some_iff.mp hf
    refine aw_callV (rest := []) (C_X6_goes hok hl eq3) (mg_o hok) rfl rfl nX6_goes q1825 q1827 qs55 q137 q1828 dX6_start_28 rfl (by decide) (by decide) (Nat.le_of_ble_eq_true rfl) (Nat.le_refl _) (Nat.le_refl _) (aP1_i ?_) aP1_x
    refine aw_if_ne 36 dX6_start_31 (by decide) (fun c4 => ?_) (fun c4 => ?_)
    · have hf := it_f c4 hf
      refine aw_aload_n 0 dX6_start_36 rfl rfl ?_
      obtain ⟨q5, eq5, hf⟩ := Option.bind_eq_some_iff.mp hf
      refine aw_callV (rest := []) (C_X6_records hok hl eq5) (mg_o hok) rfl rfl nX6_records q1829 q1831 qs56 q137 q1832 dX6_start_37 rfl (by decide) (by decide) (Nat.le_of_ble_eq_true rfl) (Nat.le_refl _) (Nat.le_refl _) (aP1_v ?_) aP1_x
      refine aw_aload_n 0 dX6_start_40 rfl rfl ?_
      refine aw_iload_n 1 dX6_start_41 rfl rfl ?_
      refine aw_iload_n 2 dX6_start_42 rfl rfl ?_
      obtain ⟨q6, eq6, hf⟩ := Option.bind_eq_some_iff.mp hf
      refine aw_callV (rest := []) (C_X6_begins hok hl eq6) (mg_o hok) rfl rfl nX6_begins q1727 q1729 qs52 q137 q1730 dX6_start_43 rfl (by decide) (by decide) (Nat.le_of_ble_eq_true rfl) (Nat.le_refl _) (Nat.le_refl _) (aP1_i ?_) aP1_x
      cases hf
      exact aw_iret rfl dX6_start_46 aP1_rfl (Nat.le_refl _) (Nat.le_refl _)
    · have hf := it_t c4 hf
      refine aw_iconst (v := 0) dX6_start_34 (by decide) ?_
      cases hf
      exact aw_iret rfl dX6_start_35 aP1_rfl (Nat.le_refl _) (Nat.le_refl _)
  · have hf := it_f c2 hf
    refine aw_iload_n 2 dX6_start_10 rfl rfl ?_
    refine aw_iconst (v := 2) dX6_start_11 (by decide) ?_
    refine aw_iload_n 1 dX6_start_12 rfl rfl ?_
    refine aw_iconst (v := 1) dX6_start_13 (by decide) ?_
    refine aw_isub dX6_start_14 ?_
    obtain ⟨q7, eq7, hf⟩ := Option.bind_eq_some_iff.mp hf
    refine aw_callS (rest := [.ref (ad 13)]) (C_X6_in hl eq7) nX6_in q1822 q1823 q137 q1824 dX6_start_15 rfl (by decide) (by decide) (Nat.le_of_ble_eq_true rfl) (Nat.le_refl _) (Nat.le_refl _) (aP1_i ?_) aP1_x
    refine aw_if_eq 25 dX6_start_18 (by decide) (fun c8 => ?_) (fun c8 => ?_)
    · have hf := it_t c8 hf
      refine aw_iconst (v := 0) dX6_start_25 (by decide) ?_
      refine aw_iconst (v := 1) dX6_start_26 (by decide) ?_
      refine aw_iconst (v := 1) dX6_start_27 (by decide) ?_
      obtain ⟨q9, eq9, hf⟩ := Option.bind_eq_some_iff.mp hf
      refine aw_callV (rest := []) (C_X6_goes hok hl eq9) (mg_o hok) rfl rfl nX6_goes q1825 q1827 qs55 q137 q1828 dX6_start_28 rfl (by decide) (by decide) (Nat.le_of_ble_eq_true rfl) (Nat.le_refl _) (Nat.le_refl _) (aP1_i ?_) aP1_x
      refine aw_if_ne 36 dX6_start_31 (by decide) (fun c10 => ?_) (fun c10 => ?_)
      · have hf := it_f c10 hf
        refine aw_aload_n 0 dX6_start_36 rfl rfl ?_
        obtain ⟨q11, eq11, hf⟩ := Option.bind_eq_some_iff.mp hf
        refine aw_callV (rest := []) (C_X6_records hok hl eq11) (mg_o hok) rfl rfl nX6_records q1829 q1831 qs56 q137 q1832 dX6_start_37 rfl (by decide) (by decide) (Nat.le_of_ble_eq_true rfl) (Nat.le_refl _) (Nat.le_refl _) (aP1_v ?_) aP1_x
        refine aw_aload_n 0 dX6_start_40 rfl rfl ?_
        refine aw_iload_n 1 dX6_start_41 rfl rfl ?_
        refine aw_iload_n 2 dX6_start_42 rfl rfl ?_
        obtain ⟨q12, eq12, hf⟩ := Option.bind_eq_some_iff.mp hf
        refine aw_callV (rest := []) (C_X6_begins hok hl eq12) (mg_o hok) rfl rfl nX6_begins q1727 q1729 qs52 q137 q1730 dX6_start_43 rfl (by decide) (by decide) (Nat.le_of_ble_eq_true rfl) (Nat.le_refl _) (Nat.le_refl _) (aP1_i ?_) aP1_x
        cases hf
        exact aw_iret rfl dX6_start_46 aP1_rfl (Nat.le_refl _) (Nat.le_refl _)
      · have hf := it_t c10 hf
        refine aw_iconst (v := 0) dX6_start_34 (by decide) ?_
        cases hf
        exact aw_iret rfl dX6_start_35 aP1_rfl (Nat.le_refl _) (Nat.le_refl _)
    · have hf := it_f c8 hf
      refine aw_iconst (v := 1) dX6_start_21 (by decide) ?_
      refine aw_goto 26 dX6_start_22 (by decide) ?_
      refine aw_iconst (v := 1) dX6_start_26 (by decide) ?_
      refine aw_iconst (v := 1) dX6_start_27 (by decide) ?_
      obtain ⟨q13, eq13, hf⟩ := Option.bind_eq_some_iff.mp hf
      refine aw_callV (rest := []) (C_X6_goes hok hl eq13) (mg_o hok) rfl rfl nX6_goes q1825 q1827 qs55 q137 q1828 dX6_start_28 rfl (by decide) (by decide) (Nat.le_of_ble_eq_true rfl) (Nat.le_refl _) (Nat.le_refl _) (aP1_i ?_) aP1_x
      refine aw_if_ne 36 dX6_start_31 (by decide) (fun c14 => ?_) (fun c14 => ?_)
      · have hf := it_f c14 hf
        refine aw_aload_n 0 dX6_start_36 rfl rfl ?_
        obtain ⟨q15, eq15, hf⟩ := Option.bind_eq_some_iff.mp hf
        refine aw_callV (rest := []) (C_X6_records hok hl eq15) (mg_o hok) rfl rfl nX6_records q1829 q1831 qs56 q137 q1832 dX6_start_37 rfl (by decide) (by decide) (Nat.le_of_ble_eq_true rfl) (Nat.le_refl _) (Nat.le_refl _) (aP1_v ?_) aP1_x
        refine aw_aload_n 0 dX6_start_40 rfl rfl ?_
        refine aw_iload_n 1 dX6_start_41 rfl rfl ?_
        refine aw_iload_n 2 dX6_start_42 rfl rfl ?_
        obtain ⟨q16, eq16, hf⟩ := Option.bind_eq_some_iff.mp hf
        refine aw_callV (rest := []) (C_X6_begins hok hl eq16) (mg_o hok) rfl rfl nX6_begins q1727 q1729 qs52 q137 q1730 dX6_start_43 rfl (by decide) (by decide) (Nat.le_of_ble_eq_true rfl) (Nat.le_refl _) (Nat.le_refl _) (aP1_i ?_) aP1_x
        cases hf
        exact aw_iret rfl dX6_start_46 aP1_rfl (Nat.le_refl _) (Nat.le_refl _)
      · have hf := it_t c14 hf
        refine aw_iconst (v := 0) dX6_start_34 (by decide) ?_
        cases hf
        exact aw_iret rfl dX6_start_35 aP1_rfl (Nat.le_refl _) (Nat.le_refl _)
abbrev mX6_turnDiagonals : aM := (yX6_turnDiagonals, cX6_turnDiagonals, 1, some .boolean, [])
theorem nX6_turnDiagonals : aNoMH yX6_turnDiagonals 0 := by decide +kernel
def S_X6_turnDiagonals (n : Nat) (st : MSt) : Option (Int32 × MSt) :=
  onm (mI st 2 0) fun u1 =>
  (S_X6_records n u1).bind fun q2 =>
  onm (mA q2 0 2 ((1 : Int32) - (q2.2.1 0 2))) fun u3 =>
  if (u3.2.1 0 2) = 1 then
    some (1, u3)
  else
    some (0, u3)
set_option maxHeartbeats 2000000 in
theorem C_X6_turnDiagonals {l : Launch} {G : aG} {ad : Nat → Nat} {h0 : aH} (hok : mOk ad) (hl : l.stackTraces = false) {n : Nat} {st : MSt} {r : Int32 × MSt} (hf : S_X6_turnDiagonals n st = some r) : aC l G mX6_turnDiagonals (ws_ yX6_turnDiagonals cX6_turnDiagonals 1 (some .boolean)) 2 0 0 [.ref (ad 13)] (mh ad st h0) (aP1 (some (.int r.1)) (mh ad r.2 h0)) := by
  refine aC_of (M := mX6_turnDiagonals) rfl (by decide) (Nat.le_of_ble_eq_true rfl) hl ?_
  rw [S_X6_turnDiagonals] at hf
  refine aw_eqv (lv2 := [(0, .ref (ad 13))]) rfl rfl rfl rfl ?_
  refine aw_aload_n 0 dX6_turnDiagonals_0 rfl rfl ?_
  refine aw_iconst (v := 0) dX6_turnDiagonals_1 (by decide) ?_
  refine aw_put (mg_o hok) rfl in_X6 tyX6_ok nmX6 5 (by decide) q1744 (Or.inl rfl) rfl rfl rfl (Nat.le_of_ble_eq_true rfl) (mu_i2 hok) dX6_turnDiagonals_2 ?_
  refine aw_st (fun u1 eu1 => ?_)
  have hf := onm_a eu1 hf
  refine aw_aload_n 0 dX6_turnDiagonals_5 rfl rfl ?_
  obtain ⟨q2, eq2, hf⟩ := Option.bind_eq_some_iff.mp hf
  refine aw_callV (rest := []) (C_X6_records hok hl eq2) (mg_o hok) rfl rfl nX6_records q1829 q1831 qs56 q137 q1832 dX6_turnDiagonals_6 rfl (by decide) (by decide) (Nat.le_of_ble_eq_true rfl) (Nat.le_refl _) (Nat.le_refl _) (aP1_v ?_) aP1_x
  refine aw_aload_n 0 dX6_turnDiagonals_9 rfl rfl ?_
  refine aw_get (v := .ref (ad 0)) (mg_o hok) rfl in_X6 0 (by decide) q1739 (Or.inl rfl) rfl dX6_turnDiagonals_10 ?_
  refine aw_iconst (v := 2) dX6_turnDiagonals_13 (by decide) ?_
  refine aw_iconst (v := 1) dX6_turnDiagonals_14 (by decide) ?_
  refine aw_aload_n 0 dX6_turnDiagonals_15 rfl rfl ?_
  refine aw_get (v := .ref (ad 0)) (mg_o hok) rfl in_X6 0 (by decide) q1739 (Or.inl rfl) rfl dX6_turnDiagonals_16 ?_
  refine aw_iconst (v := 2) dX6_turnDiagonals_19 (by decide) ?_
  refine aw_ialdj (j := 2) (mg_0 hok) (vpc (by decide)) (by decide) dX6_turnDiagonals_20 ?_
  refine aw_isub dX6_turnDiagonals_21 ?_
  refine aw_iastj (j := 2) (mg_0 hok) (vpc (by decide)) (by decide) (mu_0 hok) dX6_turnDiagonals_22 ?_
  refine aw_st (fun u3 eu3 => ?_)
  have hf := onm_a eu3 hf
  refine aw_aload_n 0 dX6_turnDiagonals_23 rfl rfl ?_
  refine aw_get (v := .ref (ad 0)) (mg_o hok) rfl in_X6 0 (by decide) q1739 (Or.inl rfl) rfl dX6_turnDiagonals_24 ?_
  refine aw_iconst (v := 2) dX6_turnDiagonals_27 (by decide) ?_
  refine aw_ialdj (j := 2) (mg_0 hok) (vpc (by decide)) (by decide) dX6_turnDiagonals_28 ?_
  refine aw_iconst (v := 1) dX6_turnDiagonals_29 (by decide) ?_
  refine aw_icmp_ne 37 dX6_turnDiagonals_30 (by decide) (fun c4 => ?_) (fun c4 => ?_)
  · have hf := it_f c4 hf
    refine aw_iconst (v := 0) dX6_turnDiagonals_37 (by decide) ?_
    cases hf
    exact aw_zret rfl rfl dX6_turnDiagonals_38 aP1_rfl (Nat.le_refl _) (Nat.le_refl _)
  · have hf := it_t c4 hf
    refine aw_iconst (v := 1) dX6_turnDiagonals_33 (by decide) ?_
    refine aw_goto 38 dX6_turnDiagonals_34 (by decide) ?_
    cases hf
    exact aw_zret rfl rfl dX6_turnDiagonals_38 aP1_rfl (Nat.le_refl _) (Nat.le_refl _)
abbrev mX6_edges : aM := (yX6_edges, cX6_edges, 1, some .int, [])
theorem nX6_edges : aNoMH yX6_edges 0 := by decide +kernel
def S_X6_edges (st : MSt) : Option (Int32) :=
  some ((4 : Int32) * (st.2.1 0 0))
set_option maxHeartbeats 2000000 in
theorem C_X6_edges {l : Launch} {G : aG} {ad : Nat → Nat} {h0 : aH} (hok : mOk ad) (hl : l.stackTraces = false) {st : MSt} {r : Int32} (hf : S_X6_edges st = some r) : aC l G mX6_edges (ws_ yX6_edges cX6_edges 1 (some .int)) 0 0 0 [.ref (ad 13)] (mh ad st h0) (aP1 (some (.int r)) (mh ad st h0)) := by
  refine aC_of (M := mX6_edges) rfl (by decide) (Nat.le_of_ble_eq_true rfl) hl ?_
  rw [S_X6_edges] at hf
  refine aw_eqv (lv2 := [(0, .ref (ad 13))]) rfl rfl rfl rfl ?_
  refine aw_iconst (v := 4) dX6_edges_0 (by decide) ?_
  refine aw_aload_n 0 dX6_edges_1 rfl rfl ?_
  refine aw_get (v := .ref (ad 0)) (mg_o hok) rfl in_X6 0 (by decide) q1739 (Or.inl rfl) rfl dX6_edges_2 ?_
  refine aw_iconst (v := 0) dX6_edges_5 (by decide) ?_
  refine aw_ialdj (j := 0) (mg_0 hok) (vpc (by decide)) (by decide) dX6_edges_6 ?_
  refine aw_imul dX6_edges_7 ?_
  cases hf
  exact aw_iret rfl dX6_edges_8 aP1_rfl (Nat.le_refl _) (Nat.le_refl _)
abbrev mX6_isEdge : aM := (yX6_isEdge, cX6_isEdge, 2, some .boolean, [])
theorem nX6_isEdge : aNoMH yX6_isEdge 1 := by decide +kernel
def S_X6_isEdge (x1 : Int32) (st : MSt) : Option (Int32) :=
  (S_X6_edges st).bind fun q1 =>
  (S_X6_in x1 0 (q1 - (1 : Int32))).bind fun q2 =>
  onr .boolean q2 <|
  some q2
set_option maxHeartbeats 2000000 in
theorem C_X6_isEdge {l : Launch} {G : aG} {ad : Nat → Nat} {h0 : aH} (hok : mOk ad) (hl : l.stackTraces = false) {x1 : Int32} {st : MSt} {r : Int32} (hf : S_X6_isEdge x1 st = some r) : aC l G mX6_isEdge (ws_ yX6_isEdge cX6_isEdge 2 (some .boolean)) 1 0 0 [.ref (ad 13), .int x1] (mh ad st h0) (aP1 (some (.int r)) (mh ad st h0)) := by
  refine aC_of (M := mX6_isEdge) rfl (by decide) (Nat.le_of_ble_eq_true rfl) hl ?_
  rw [S_X6_isEdge] at hf
  refine aw_eqv (lv2 := [(0, .ref (ad 13)), (1, .int x1)]) rfl rfl rfl rfl ?_
  refine aw_iload_n 1 dX6_isEdge_0 rfl rfl ?_
  refine aw_iconst (v := 0) dX6_isEdge_1 (by decide) ?_
  refine aw_aload_n 0 dX6_isEdge_2 rfl rfl ?_
  obtain ⟨q1, eq1, hf⟩ := Option.bind_eq_some_iff.mp hf
  refine aw_callV (rest := [.int 0, .int x1]) (C_X6_edges hok hl eq1) (mg_o hok) rfl rfl nX6_edges q1849 q1851 qs59 q137 q1852 dX6_isEdge_3 rfl (by decide) (by decide) (Nat.le_of_ble_eq_true rfl) (Nat.le_refl _) (Nat.le_refl _) (aP1_i ?_) aP1_x
  refine aw_iconst (v := 1) dX6_isEdge_6 (by decide) ?_
  refine aw_isub dX6_isEdge_7 ?_
  obtain ⟨q2, eq2, hf⟩ := Option.bind_eq_some_iff.mp hf
  refine aw_callS (rest := []) (C_X6_in hl eq2) nX6_in q1822 q1823 q137 q1824 dX6_isEdge_8 rfl (by decide) (by decide) (Nat.le_of_ble_eq_true rfl) (Nat.le_refl _) (Nat.le_refl _) (aP1_i ?_) aP1_x
  obtain ⟨z3, hf⟩ := onr_s hf
  cases hf
  exact aw_zret rfl z3 dX6_isEdge_11 aP1_rfl (Nat.le_refl _) (Nat.le_refl _)
abbrev mX6_isLetter : aM := (yX6_isLetter, cX6_isLetter, 2, some .boolean, [])
theorem nX6_isLetter : aNoMH yX6_isLetter 1 := by decide +kernel
def S_X6_isLetter (x1 : Int32) (st : MSt) : Option (Int32) :=
  (S_X6_in x1 0 ((st.2.1 0 1) - (1 : Int32))).bind fun q1 =>
  onr .boolean q1 <|
  some q1
set_option maxHeartbeats 2000000 in
theorem C_X6_isLetter {l : Launch} {G : aG} {ad : Nat → Nat} {h0 : aH} (hok : mOk ad) (hl : l.stackTraces = false) {x1 : Int32} {st : MSt} {r : Int32} (hf : S_X6_isLetter x1 st = some r) : aC l G mX6_isLetter (ws_ yX6_isLetter cX6_isLetter 2 (some .boolean)) 1 0 0 [.ref (ad 13), .int x1] (mh ad st h0) (aP1 (some (.int r)) (mh ad st h0)) := by
  refine aC_of (M := mX6_isLetter) rfl (by decide) (Nat.le_of_ble_eq_true rfl) hl ?_
  rw [S_X6_isLetter] at hf
  refine aw_eqv (lv2 := [(0, .ref (ad 13)), (1, .int x1)]) rfl rfl rfl rfl ?_
  refine aw_iload_n 1 dX6_isLetter_0 rfl rfl ?_
  refine aw_iconst (v := 0) dX6_isLetter_1 (by decide) ?_
  refine aw_aload_n 0 dX6_isLetter_2 rfl rfl ?_
  refine aw_get (v := .ref (ad 0)) (mg_o hok) rfl in_X6 0 (by decide) q1739 (Or.inl rfl) rfl dX6_isLetter_3 ?_
  refine aw_iconst (v := 1) dX6_isLetter_6 (by decide) ?_
  refine aw_ialdj (j := 1) (mg_0 hok) (vpc (by decide)) (by decide) dX6_isLetter_7 ?_
  refine aw_iconst (v := 1) dX6_isLetter_8 (by decide) ?_
  refine aw_isub dX6_isLetter_9 ?_
  obtain ⟨q1, eq1, hf⟩ := Option.bind_eq_some_iff.mp hf
  refine aw_callS (rest := []) (C_X6_in hl eq1) nX6_in q1822 q1823 q137 q1824 dX6_isLetter_10 rfl (by decide) (by decide) (Nat.le_of_ble_eq_true rfl) (Nat.le_refl _) (Nat.le_refl _) (aP1_i ?_) aP1_x
  obtain ⟨z2, hf⟩ := onr_s hf
  cases hf
  exact aw_zret rfl z2 dX6_isLetter_13 aP1_rfl (Nat.le_refl _) (Nat.le_refl _)
abbrev mX6_letterOf : aM := (yX6_letterOf, cX6_letterOf, 2, some .int, [])
theorem nX6_letterOf : aNoMH yX6_letterOf 1 := by decide +kernel
def S_X6_letterOf (x1 : Int32) (st : MSt) : Option (Int32) :=
  if x1 = 0 then
    some ((-1))
  else
    some ((x1 - (1 : Int32)) / 2)
set_option maxHeartbeats 2000000 in
theorem C_X6_letterOf {l : Launch} {G : aG} {ad : Nat → Nat} {h0 : aH} (hok : mOk ad) (hl : l.stackTraces = false) {x1 : Int32} {st : MSt} {r : Int32} (hf : S_X6_letterOf x1 st = some r) : aC l G mX6_letterOf (ws_ yX6_letterOf cX6_letterOf 2 (some .int)) 0 0 0 [.ref (ad 13), .int x1] (mh ad st h0) (aP1 (some (.int r)) (mh ad st h0)) := by
  refine aC_of (M := mX6_letterOf) rfl (by decide) (Nat.le_of_ble_eq_true rfl) hl ?_
  rw [S_X6_letterOf] at hf
  refine aw_eqv (lv2 := [(0, .ref (ad 13)), (1, .int x1)]) rfl rfl rfl rfl ?_
  refine aw_iload_n 1 dX6_letterOf_0 rfl rfl ?_
  refine aw_if_ne 8 dX6_letterOf_1 (by decide) (fun c1 => ?_) (fun c1 => ?_)
  · have hf := it_f c1 hf
    refine aw_iload_n 1 dX6_letterOf_8 rfl rfl ?_
    refine aw_iconst (v := 1) dX6_letterOf_9 (by decide) ?_
    refine aw_isub dX6_letterOf_10 ?_
    refine aw_iconst (v := 2) dX6_letterOf_11 (by decide) ?_
    refine aw_idiv dX6_letterOf_12 (by decide) ?_
    cases hf
    exact aw_iret rfl dX6_letterOf_13 aP1_rfl (Nat.le_refl _) (Nat.le_refl _)
  · have hf := it_t c1 hf
    refine aw_iconst (v := (-1)) dX6_letterOf_4 (by decide) ?_
    refine aw_goto 13 dX6_letterOf_5 (by decide) ?_
    cases hf
    exact aw_iret rfl dX6_letterOf_13 aP1_rfl (Nat.le_refl _) (Nat.le_refl _)
abbrev mX6_flag : aM := (yX6_flag, cX6_flag, 1, some .int, [])
theorem nX6_flag : aNoMH yX6_flag 1 := by decide +kernel
def S_X6_flag (x0 : Int32) : Option (Int32) :=
  if x0 = 0 then
    some 0
  else
    some 1
set_option maxHeartbeats 2000000 in
theorem C_X6_flag {l : Launch} {G : aG} {h : aH} (hl : l.stackTraces = false) {x0 : Int32} {r : Int32} (hf : S_X6_flag x0 = some r) : aC l G mX6_flag (ws_ yX6_flag cX6_flag 1 (some .int)) 0 0 0 [.int x0] h (aP1 (some (.int r)) h) := by
  refine aC_of (M := mX6_flag) rfl (by decide) (Nat.le_of_ble_eq_true rfl) hl ?_
  rw [S_X6_flag] at hf
  refine aw_eqv (lv2 := [(0, .int x0)]) rfl rfl rfl rfl ?_
  refine aw_iload_n 0 dX6_flag_0 rfl rfl ?_
  refine aw_if_eq 8 dX6_flag_1 (by decide) (fun c1 => ?_) (fun c1 => ?_)
  · have hf := it_t c1 hf
    refine aw_iconst (v := 0) dX6_flag_8 (by decide) ?_
    cases hf
    exact aw_iret rfl dX6_flag_9 aP1_rfl (Nat.le_refl _) (Nat.le_refl _)
  · have hf := it_f c1 hf
    refine aw_iconst (v := 1) dX6_flag_4 (by decide) ?_
    refine aw_goto 9 dX6_flag_5 (by decide) ?_
    cases hf
    exact aw_iret rfl dX6_flag_9 aP1_rfl (Nat.le_refl _) (Nat.le_refl _)
abbrev mX6_tells : aM := (yX6_tells, cX6_tells, 5, some .int, [])
theorem nX6_tells : aNoMH yX6_tells 3 := by decide +kernel
def S_X6_tells (x1 : Int32) (x2 : Int32) (x3 : Int32) (st : MSt) : Option (Int32 × MSt) :=
  ob ((3 : Int32) + x1) 432 fun j1 =>
  (S_X6_letterOf (st.2.1 0 j1) st).bind fun q3 =>
  (S_X6_flag x3).bind fun q4 =>
  ob ((3 : Int32) + x1) 432 fun j5 =>
  onm (mA st 0 j5 (((1 : Int32) + ((2 : Int32) * x2)) + q4)) fun u7 =>
  some (q3, u7)
set_option maxHeartbeats 2000000 in
theorem C_X6_tells {l : Launch} {G : aG} {ad : Nat → Nat} {h0 : aH} (hok : mOk ad) (hl : l.stackTraces = false) {x1 : Int32} {x2 : Int32} {x3 : Int32} {st : MSt} {r : Int32 × MSt} (hf : S_X6_tells x1 x2 x3 st = some r) : aC l G mX6_tells (ws_ yX6_tells cX6_tells 5 (some .int)) 1 0 0 [.ref (ad 13), .int x1, .int x2, .int x3] (mh ad st h0) (aP1 (some (.int r.1)) (mh ad r.2 h0)) := by
  refine aC_of (M := mX6_tells) rfl (by decide) (Nat.le_of_ble_eq_true rfl) hl ?_
  rw [S_X6_tells] at hf
  refine aw_eqv (lv2 := [(0, .ref (ad 13)), (1, .int x1), (2, .int x2), (3, .int x3)]) rfl rfl rfl rfl ?_
  refine aw_aload_n 0 dX6_tells_0 rfl rfl ?_
  refine aw_aload_n 0 dX6_tells_1 rfl rfl ?_
  refine aw_get (v := .ref (ad 0)) (mg_o hok) rfl in_X6 0 (by decide) q1739 (Or.inl rfl) rfl dX6_tells_2 ?_
  refine aw_iconst (v := 3) dX6_tells_5 (by decide) ?_
  refine aw_iload_n 1 dX6_tells_6 rfl rfl ?_
  refine aw_iadd dX6_tells_7 ?_
  obtain ⟨j1, z2, ej1, hf⟩ := ob_s hf
  refine aw_ialdj (mg_0 hok) z2 ej1 dX6_tells_8 ?_
  obtain ⟨q3, eq3, hf⟩ := Option.bind_eq_some_iff.mp hf
  refine aw_callV (rest := []) (C_X6_letterOf hok hl eq3) (mg_o hok) rfl rfl nX6_letterOf q1861 q1863 qs62 q137 q1864 dX6_tells_9 rfl (by decide) (by decide) (Nat.le_of_ble_eq_true rfl) (Nat.le_refl _) (Nat.le_refl _) (aP1_i ?_) aP1_x
  refine aw_istore (lv' := [(4, .int q3), (0, .ref (ad 13)), (1, .int x1), (2, .int x2), (3, .int x3)]) dX6_tells_12 (Nat.le_of_ble_eq_true rfl) rfl ?_
  refine aw_aload_n 1 dX6_tells_14 rfl rfl ?_
  refine aw_get (v := .ref (ad 0)) (mg_o hok) rfl in_X6 0 (by decide) q1739 (Or.inl rfl) rfl dX6_tells_15 ?_
  refine aw_iconst (v := 3) dX6_tells_18 (by decide) ?_
  refine aw_iload_n 2 dX6_tells_19 rfl rfl ?_
  refine aw_iadd dX6_tells_20 ?_
  refine aw_iconst (v := 1) dX6_tells_21 (by decide) ?_
  refine aw_iconst (v := 2) dX6_tells_22 (by decide) ?_
  refine aw_iload_n 3 dX6_tells_23 rfl rfl ?_
  refine aw_imul dX6_tells_24 ?_
  refine aw_iadd dX6_tells_25 ?_
  refine aw_iload_n 4 dX6_tells_26 rfl rfl ?_
  obtain ⟨q4, eq4, hf⟩ := Option.bind_eq_some_iff.mp hf
  refine aw_callS (rest := [.int ((1 : Int32) + ((2 : Int32) * x2)), .int ((3 : Int32) + x1), .ref (ad 0)]) (C_X6_flag hl eq4) nX6_flag q1865 q1866 q137 q1867 dX6_tells_27 rfl (by decide) (by decide) (Nat.le_of_ble_eq_true rfl) (Nat.le_refl _) (Nat.le_refl _) (aP1_i ?_) aP1_x
  refine aw_iadd dX6_tells_30 ?_
  obtain ⟨j5, z6, ej5, hf⟩ := ob_s hf
  refine aw_iastj (mg_0 hok) z6 ej5 (mu_0 hok) dX6_tells_31 ?_
  refine aw_st (fun u7 eu7 => ?_)
  have hf := onm_a eu7 hf
  refine aw_iload 0 dX6_tells_32 rfl ?_
  cases hf
  exact aw_iret rfl dX6_tells_34 aP1_rfl (Nat.le_refl _) (Nat.le_refl _)
abbrev mX6_setTelling : aM := (yX6_setTelling, cX6_setTelling, 4, some .int, [])
theorem nX6_setTelling : aNoMH yX6_setTelling 3 := by decide +kernel
def S_X6_setTelling (n : Nat) (x1 : Int32) (x2 : Int32) (x3 : Int32) (st : MSt) : Option (Int32 × MSt) :=
  (S_X6_isEdge x1 st).bind fun q1 =>
  (S_X6_isLetter x2 st).bind fun q2 =>
  (S_X6_goes q1 q2 1 st).bind fun q3 =>
  if q3.1 = 0 then
    some (0, q3.2)
  else
    (S_X6_records n q3.2).bind fun q5 =>
    (S_X6_tells x1 x2 x3 q5).bind fun q6 =>
    some (q6.1, q6.2)
set_option maxHeartbeats 2000000 in
theorem C_X6_setTelling {l : Launch} {G : aG} {ad : Nat → Nat} {h0 : aH} (hok : mOk ad) (hl : l.stackTraces = false) {n : Nat} {x1 : Int32} {x2 : Int32} {x3 : Int32} {st : MSt} {r : Int32 × MSt} (hf : S_X6_setTelling n x1 x2 x3 st = some r) : aC l G mX6_setTelling (ws_ yX6_setTelling cX6_setTelling 4 (some .int)) 2 0 0 [.ref (ad 13), .int x1, .int x2, .int x3] (mh ad st h0) (aP1 (some (.int r.1)) (mh ad r.2 h0)) := by
  refine aC_of (M := mX6_setTelling) rfl (by decide) (Nat.le_of_ble_eq_true rfl) hl ?_
  rw [S_X6_setTelling] at hf
  refine aw_eqv (lv2 := [(0, .ref (ad 13)), (1, .int x1), (2, .int x2), (3, .int x3)]) rfl rfl rfl rfl ?_
  refine aw_aload_n 0 dX6_setTelling_0 rfl rfl ?_
  refine aw_aload_n 0 dX6_setTelling_1 rfl rfl ?_
  refine aw_iload_n 1 dX6_setTelling_2 rfl rfl ?_
  obtain ⟨q1, eq1, hf⟩ := Option.bind_eq_some_iff.mp hf
  refine aw_callV (rest := [.ref (ad 13)]) (C_X6_isEdge hok hl eq1) (mg_o hok) rfl rfl nX6_isEdge q1845 q1847 qs58 q137 q1848 dX6_setTelling_3 rfl (by decide) (by decide) (Nat.le_of_ble_eq_true rfl) (Nat.le_refl _) (Nat.le_refl _) (aP1_i ?_) aP1_x
  refine aw_aload_n 0 dX6_setTelling_6 rfl rfl ?_
  refine aw_iload_n 2 dX6_setTelling_7 rfl rfl ?_
  obtain ⟨q2, eq2, hf⟩ := Option.bind_eq_some_iff.mp hf
  refine aw_callV (rest := [.int q1, .ref (ad 13)]) (C_X6_isLetter hok hl eq2) (mg_o hok) rfl rfl nX6_isLetter q1853 q1855 qs60 q137 q1856 dX6_setTelling_8 rfl (by decide) (by decide) (Nat.le_of_ble_eq_true rfl) (Nat.le_refl _) (Nat.le_refl _) (aP1_i ?_) aP1_x
  refine aw_iconst (v := 1) dX6_setTelling_11 (by decide) ?_
  obtain ⟨q3, eq3, hf⟩ := Option.bind_eq_some_iff.mp hf
  refine aw_callV (rest := []) (C_X6_goes hok hl eq3) (mg_o hok) rfl rfl nX6_goes q1825 q1827 qs55 q137 q1828 dX6_setTelling_12 rfl (by decide) (by decide) (Nat.le_of_ble_eq_true rfl) (Nat.le_refl _) (Nat.le_refl _) (aP1_i ?_) aP1_x
  refine aw_if_ne 20 dX6_setTelling_15 (by decide) (fun c4 => ?_) (fun c4 => ?_)
  · have hf := it_f c4 hf
    refine aw_aload_n 0 dX6_setTelling_20 rfl rfl ?_
    obtain ⟨q5, eq5, hf⟩ := Option.bind_eq_some_iff.mp hf
    refine aw_callV (rest := []) (C_X6_records hok hl eq5) (mg_o hok) rfl rfl nX6_records q1829 q1831 qs56 q137 q1832 dX6_setTelling_21 rfl (by decide) (by decide) (Nat.le_of_ble_eq_true rfl) (Nat.le_refl _) (Nat.le_refl _) (aP1_v ?_) aP1_x
    refine aw_aload_n 0 dX6_setTelling_24 rfl rfl ?_
    refine aw_iload_n 1 dX6_setTelling_25 rfl rfl ?_
    refine aw_iload_n 2 dX6_setTelling_26 rfl rfl ?_
    refine aw_iload_n 3 dX6_setTelling_27 rfl rfl ?_
    obtain ⟨q6, eq6, hf⟩ := Option.bind_eq_some_iff.mp hf
    refine aw_callV (rest := []) (C_X6_tells hok hl eq6) (mg_o hok) rfl rfl nX6_tells q1857 q1859 qs61 q137 q1860 dX6_setTelling_28 rfl (by decide) (by decide) (Nat.le_of_ble_eq_true rfl) (Nat.le_refl _) (Nat.le_refl _) (aP1_i ?_) aP1_x
    cases hf
    exact aw_iret rfl dX6_setTelling_31 aP1_rfl (Nat.le_refl _) (Nat.le_refl _)
  · have hf := it_t c4 hf
    refine aw_iconst (v := 0) dX6_setTelling_18 (by decide) ?_
    cases hf
    exact aw_iret rfl dX6_setTelling_19 aP1_rfl (Nat.le_refl _) (Nat.le_refl _)
abbrev mX6_tellings : aM := (yX6_tellings, cX6_tellings, 3, some .int, [])
theorem nX6_tellings : aNoMH yX6_tellings 0 := by decide +kernel
def S_X6_tellings_c4 (st : MSt) : Nat → Int32 → Int32 → Option (Int32)
  | 0, _, _ => none
  | n + 1, x1, x2 =>
    (S_X6_edges st).bind fun q1 =>
    if q1 ≤ x2 then
      some x1
    else
      ob ((3 : Int32) + x2) 432 fun j3 =>
      if (st.2.1 0 j3) ≤ 0 then
        (S_X6_flag 0).bind fun q6 =>
        onm (x1 + q6) fun v7 =>
        S_X6_tellings_c4 st n v7 (x2 + 1)
      else
        (S_X6_flag 1).bind fun q8 =>
        onm (x1 + q8) fun v9 =>
        S_X6_tellings_c4 st n v9 (x2 + 1)
set_option maxHeartbeats 2000000 in
theorem A_X6_tellings_c4 {l : Launch} {G : aG} {ad : Nat → Nat} {h0 : aH} (hok : mOk ad) (hl : l.stackTraces = false) {r : Int32} {st : MSt} : ∀ (n : Nat) (x1 : Int32) (x2 : Int32), S_X6_tellings_c4 st n x1 x2 = some r → AW l G mX6_tellings 1 0 0 (aP1 (some (.int r)) (mh ad st h0)) 4 [(0, .ref (ad 13)), (1, .int x1), (2, .int x2)] [] (mh ad st h0) 0 0 := by
  intro n
  induction n with
  | zero =>
    intro x1 x2 hf
    rw [S_X6_tellings_c4] at hf
    cases hf
  | succ n ih =>
    intro x1 x2 hf
    rw [S_X6_tellings_c4] at hf
    refine aw_iload_n 2 dX6_tellings_4 rfl rfl ?_
    refine aw_aload_n 0 dX6_tellings_5 rfl rfl ?_
    obtain ⟨q1, eq1, hf⟩ := Option.bind_eq_some_iff.mp hf
    refine aw_callV (rest := [.int x2]) (C_X6_edges hok hl eq1) (mg_o hok) rfl rfl nX6_edges q1849 q1851 qs59 q137 q1852 dX6_tellings_6 rfl (by decide) (by decide) (Nat.le_of_ble_eq_true rfl) (Nat.le_refl _) (Nat.le_refl _) (aP1_i ?_) aP1_x
    refine aw_icmp_ge 40 dX6_tellings_9 (by decide) (fun c2 => ?_) (fun c2 => ?_)
    · have hf := it_t c2 hf
      refine aw_iload_n 1 dX6_tellings_40 rfl rfl ?_
      cases hf
      exact aw_iret rfl dX6_tellings_41 aP1_rfl (Nat.le_refl _) (Nat.le_refl _)
    · have hf := it_f c2 hf
      refine aw_iload_n 1 dX6_tellings_12 rfl rfl ?_
      refine aw_aload_n 0 dX6_tellings_13 rfl rfl ?_
      refine aw_get (v := .ref (ad 0)) (mg_o hok) rfl in_X6 0 (by decide) q1739 (Or.inl rfl) rfl dX6_tellings_14 ?_
      refine aw_iconst (v := 3) dX6_tellings_17 (by decide) ?_
      refine aw_iload_n 2 dX6_tellings_18 rfl rfl ?_
      refine aw_iadd dX6_tellings_19 ?_
      obtain ⟨j3, z4, ej3, hf⟩ := ob_s hf
      refine aw_ialdj (mg_0 hok) z4 ej3 dX6_tellings_20 ?_
      refine aw_if_le 28 dX6_tellings_21 (by decide) (fun c5 => ?_) (fun c5 => ?_)
      · have hf := it_t c5 hf
        refine aw_iconst (v := 0) dX6_tellings_28 (by decide) ?_
        obtain ⟨q6, eq6, hf⟩ := Option.bind_eq_some_iff.mp hf
        refine aw_callS (rest := [.int x1]) (C_X6_flag hl eq6) nX6_flag q1865 q1866 q137 q1867 dX6_tellings_29 rfl (by decide) (by decide) (Nat.le_of_ble_eq_true rfl) (Nat.le_refl _) (Nat.le_refl _) (aP1_i ?_) aP1_x
        refine aw_iadd dX6_tellings_32 ?_
        refine aw_topi (fun v7 ev7 => ?_)
        have hf := onm_a ev7 hf
        refine aw_istore_n (lv' := [(1, .int v7), (0, .ref (ad 13)), (2, .int x2)]) dX6_tellings_33 rfl (Nat.le_of_ble_eq_true rfl) rfl ?_
        refine aw_iinc 2 (v := x2 + 1) (lv' := [(2, .int (x2 + 1)), (1, .int v7), (0, .ref (ad 13))]) dX6_tellings_34 rfl rfl (Nat.le_of_ble_eq_true rfl) rfl ?_
        refine aw_goto 4 dX6_tellings_37 (by decide) ?_
        refine aw_sub [2, 1, 0] rfl ?_
        exact ih v7 (x2 + 1) hf
      · have hf := it_f c5 hf
        refine aw_iconst (v := 1) dX6_tellings_24 (by decide) ?_
        refine aw_goto 29 dX6_tellings_25 (by decide) ?_
        obtain ⟨q8, eq8, hf⟩ := Option.bind_eq_some_iff.mp hf
        refine aw_callS (rest := [.int x1]) (C_X6_flag hl eq8) nX6_flag q1865 q1866 q137 q1867 dX6_tellings_29 rfl (by decide) (by decide) (Nat.le_of_ble_eq_true rfl) (Nat.le_refl _) (Nat.le_refl _) (aP1_i ?_) aP1_x
        refine aw_iadd dX6_tellings_32 ?_
        refine aw_topi (fun v9 ev9 => ?_)
        have hf := onm_a ev9 hf
        refine aw_istore_n (lv' := [(1, .int v9), (0, .ref (ad 13)), (2, .int x2)]) dX6_tellings_33 rfl (Nat.le_of_ble_eq_true rfl) rfl ?_
        refine aw_iinc 2 (v := x2 + 1) (lv' := [(2, .int (x2 + 1)), (1, .int v9), (0, .ref (ad 13))]) dX6_tellings_34 rfl rfl (Nat.le_of_ble_eq_true rfl) rfl ?_
        refine aw_goto 4 dX6_tellings_37 (by decide) ?_
        refine aw_sub [2, 1, 0] rfl ?_
        exact ih v9 (x2 + 1) hf
def S_X6_tellings (n : Nat) (st : MSt) : Option (Int32) :=
  S_X6_tellings_c4 st n 0 0
set_option maxHeartbeats 2000000 in
theorem C_X6_tellings {l : Launch} {G : aG} {ad : Nat → Nat} {h0 : aH} (hok : mOk ad) (hl : l.stackTraces = false) {n : Nat} {st : MSt} {r : Int32} (hf : S_X6_tellings n st = some r) : aC l G mX6_tellings (ws_ yX6_tellings cX6_tellings 3 (some .int)) 1 0 0 [.ref (ad 13)] (mh ad st h0) (aP1 (some (.int r)) (mh ad st h0)) := by
  refine aC_of (M := mX6_tellings) rfl (by decide) (Nat.le_of_ble_eq_true rfl) hl ?_
  rw [S_X6_tellings] at hf
  refine aw_eqv (lv2 := [(0, .ref (ad 13))]) rfl rfl rfl rfl ?_
  refine aw_iconst (v := 0) dX6_tellings_0 (by decide) ?_
  refine aw_istore_n (lv' := [(1, .int 0), (0, .ref (ad 13))]) dX6_tellings_1 rfl (Nat.le_of_ble_eq_true rfl) rfl ?_
  refine aw_iconst (v := 0) dX6_tellings_2 (by decide) ?_
  refine aw_istore_n (lv' := [(2, .int 0), (1, .int 0), (0, .ref (ad 13))]) dX6_tellings_3 rfl (Nat.le_of_ble_eq_true rfl) rfl ?_
  refine aw_sub [2, 1, 0] rfl ?_
  exact A_X6_tellings_c4 hok hl n 0 0 hf
abbrev mX6_clearTelling : aM := (yX6_clearTelling, cX6_clearTelling, 3, some .int, [])
theorem nX6_clearTelling : aNoMH yX6_clearTelling 1 := by decide +kernel
def S_X6_clearTelling_j28 (n : Nat) (x1 : Int32) (xs0 : Int32) (xs1 : Int32) (st : MSt) : Option (Int32 × MSt) :=
  (S_X6_goes xs1 xs0 1 st).bind fun q3 =>
  if q3.1 = 0 then
    some (0, q3.2)
  else
    (S_X6_records n q3.2).bind fun q5 =>
    ob ((3 : Int32) + x1) 432 fun j6 =>
    onm (mA q5 0 j6 0) fun u8 =>
    (S_X6_tellings n u8).bind fun q9 =>
    some (q9, u8)
set_option maxHeartbeats 2000000 in
theorem A_X6_clearTelling_j28 {l : Launch} {G : aG} {ad : Nat → Nat} {h0 : aH} (hok : mOk ad) (hl : l.stackTraces = false) {r : Int32 × MSt} : ∀ (n : Nat) (x1 : Int32) (xs0 : Int32) (xs1 : Int32) (st : MSt), S_X6_clearTelling_j28 n x1 xs0 xs1 st = some r → AW l G mX6_clearTelling 2 0 0 (aP1 (some (.int r.1)) (mh ad r.2 h0)) 28 [(0, .ref (ad 13)), (1, .int x1)] [.int xs0, .int xs1, .ref (ad 13)] (mh ad st h0) 0 0 := by
  intro n x1 xs0 xs1 st hf
  rw [S_X6_clearTelling_j28] at hf
  refine aw_iconst (v := 1) dX6_clearTelling_28 (by decide) ?_
  obtain ⟨q3, eq3, hf⟩ := Option.bind_eq_some_iff.mp hf
  refine aw_callV (rest := []) (C_X6_goes hok hl eq3) (mg_o hok) rfl rfl nX6_goes q1825 q1827 qs55 q137 q1828 dX6_clearTelling_29 rfl (by decide) (by decide) (Nat.le_of_ble_eq_true rfl) (Nat.le_refl _) (Nat.le_refl _) (aP1_i ?_) aP1_x
  refine aw_if_ne 37 dX6_clearTelling_32 (by decide) (fun c4 => ?_) (fun c4 => ?_)
  · have hf := it_f c4 hf
    refine aw_aload_n 0 dX6_clearTelling_37 rfl rfl ?_
    obtain ⟨q5, eq5, hf⟩ := Option.bind_eq_some_iff.mp hf
    refine aw_callV (rest := []) (C_X6_records hok hl eq5) (mg_o hok) rfl rfl nX6_records q1829 q1831 qs56 q137 q1832 dX6_clearTelling_38 rfl (by decide) (by decide) (Nat.le_of_ble_eq_true rfl) (Nat.le_refl _) (Nat.le_refl _) (aP1_v ?_) aP1_x
    refine aw_aload_n 0 dX6_clearTelling_41 rfl rfl ?_
    refine aw_get (v := .ref (ad 0)) (mg_o hok) rfl in_X6 0 (by decide) q1739 (Or.inl rfl) rfl dX6_clearTelling_42 ?_
    refine aw_iconst (v := 3) dX6_clearTelling_45 (by decide) ?_
    refine aw_iload_n 1 dX6_clearTelling_46 rfl rfl ?_
    refine aw_iadd dX6_clearTelling_47 ?_
    refine aw_iconst (v := 0) dX6_clearTelling_48 (by decide) ?_
    obtain ⟨j6, z7, ej6, hf⟩ := ob_s hf
    refine aw_iastj (mg_0 hok) z7 ej6 (mu_0 hok) dX6_clearTelling_49 ?_
    refine aw_st (fun u8 eu8 => ?_)
    have hf := onm_a eu8 hf
    refine aw_aload_n 0 dX6_clearTelling_50 rfl rfl ?_
    obtain ⟨q9, eq9, hf⟩ := Option.bind_eq_some_iff.mp hf
    refine aw_callV (rest := []) (C_X6_tellings hok hl eq9) (mg_o hok) rfl rfl nX6_tellings q1872 q1874 qs63 q137 q1875 dX6_clearTelling_51 rfl (by decide) (by decide) (Nat.le_of_ble_eq_true rfl) (Nat.le_refl _) (Nat.le_refl _) (aP1_i ?_) aP1_x
    cases hf
    exact aw_iret rfl dX6_clearTelling_54 aP1_rfl (Nat.le_refl _) (Nat.le_refl _)
  · have hf := it_t c4 hf
    refine aw_iconst (v := 0) dX6_clearTelling_35 (by decide) ?_
    cases hf
    exact aw_iret rfl dX6_clearTelling_36 aP1_rfl (Nat.le_refl _) (Nat.le_refl _)
def S_X6_clearTelling (n : Nat) (x1 : Int32) (st : MSt) : Option (Int32 × MSt) :=
  (S_X6_isEdge x1 st).bind fun q1 =>
  if q1 = 0 then
    S_X6_clearTelling_j28 n x1 0 q1 st
  else
    ob ((3 : Int32) + x1) 432 fun j10 =>
    if (st.2.1 0 j10) ≤ 0 then
      S_X6_clearTelling_j28 n x1 0 q1 st
    else
      S_X6_clearTelling_j28 n x1 1 q1 st
set_option maxHeartbeats 2000000 in
theorem C_X6_clearTelling {l : Launch} {G : aG} {ad : Nat → Nat} {h0 : aH} (hok : mOk ad) (hl : l.stackTraces = false) {n : Nat} {x1 : Int32} {st : MSt} {r : Int32 × MSt} (hf : S_X6_clearTelling n x1 st = some r) : aC l G mX6_clearTelling (ws_ yX6_clearTelling cX6_clearTelling 3 (some .int)) 2 0 0 [.ref (ad 13), .int x1] (mh ad st h0) (aP1 (some (.int r.1)) (mh ad r.2 h0)) := by
  refine aC_of (M := mX6_clearTelling) rfl (by decide) (Nat.le_of_ble_eq_true rfl) hl ?_
  rw [S_X6_clearTelling] at hf
  refine aw_eqv (lv2 := [(0, .ref (ad 13)), (1, .int x1)]) rfl rfl rfl rfl ?_
  refine aw_aload_n 0 dX6_clearTelling_0 rfl rfl ?_
  refine aw_iload_n 1 dX6_clearTelling_1 rfl rfl ?_
  obtain ⟨q1, eq1, hf⟩ := Option.bind_eq_some_iff.mp hf
  refine aw_callV (rest := []) (C_X6_isEdge hok hl eq1) (mg_o hok) rfl rfl nX6_isEdge q1845 q1847 qs58 q137 q1848 dX6_clearTelling_2 rfl (by decide) (by decide) (Nat.le_of_ble_eq_true rfl) (Nat.le_refl _) (Nat.le_refl _) (aP1_i ?_) aP1_x
  refine aw_istore_n (lv' := [(2, .int q1), (0, .ref (ad 13)), (1, .int x1)]) dX6_clearTelling_5 rfl (Nat.le_of_ble_eq_true rfl) rfl ?_
  refine aw_aload_n 1 dX6_clearTelling_6 rfl rfl ?_
  refine aw_iload_n 0 dX6_clearTelling_7 rfl rfl ?_
  refine aw_iload_n 0 dX6_clearTelling_8 rfl rfl ?_
  refine aw_if_eq 27 dX6_clearTelling_9 (by decide) (fun c2 => ?_) (fun c2 => ?_)
  · have hf := it_t c2 hf
    refine aw_iconst (v := 0) dX6_clearTelling_27 (by decide) ?_
    refine aw_sub [1, 2] rfl ?_
    exact A_X6_clearTelling_j28 hok hl n x1 0 q1 st hf
  · have hf := it_f c2 hf
    refine aw_aload_n 1 dX6_clearTelling_12 rfl rfl ?_
    refine aw_get (v := .ref (ad 0)) (mg_o hok) rfl in_X6 0 (by decide) q1739 (Or.inl rfl) rfl dX6_clearTelling_13 ?_
    refine aw_iconst (v := 3) dX6_clearTelling_16 (by decide) ?_
    refine aw_iload_n 2 dX6_clearTelling_17 rfl rfl ?_
    refine aw_iadd dX6_clearTelling_18 ?_
    obtain ⟨j10, z11, ej10, hf⟩ := ob_s hf
    refine aw_ialdj (mg_0 hok) z11 ej10 dX6_clearTelling_19 ?_
    refine aw_if_le 27 dX6_clearTelling_20 (by decide) (fun c12 => ?_) (fun c12 => ?_)
    · have hf := it_t c12 hf
      refine aw_iconst (v := 0) dX6_clearTelling_27 (by decide) ?_
      refine aw_sub [1, 2] rfl ?_
      exact A_X6_clearTelling_j28 hok hl n x1 0 q1 st hf
    · have hf := it_f c12 hf
      refine aw_iconst (v := 1) dX6_clearTelling_23 (by decide) ?_
      refine aw_goto 28 dX6_clearTelling_24 (by decide) ?_
      refine aw_sub [1, 2] rfl ?_
      exact A_X6_clearTelling_j28 hok hl n x1 1 q1 st hf
abbrev mX6_lays : aM := (yX6_lays, cX6_lays, 10, none, [])
theorem nX6_lays : aNoMH yX6_lays 2 := by decide +kernel
def S_X6_lays_c19 (K88 : Int32 → Int32 → Int32 → MSt → Option (MSt)) : Nat → Int32 → Int32 → Int32 → Int32 → Int32 → Int32 → MSt → Option (MSt)
  | 0, _, _, _, _, _, _, _ => none
  | n + 1, x2, x3, x4, x5, x6, x7, st =>
    if (st.1 7) ≤ x7 then
      K88 x3 x4 x5 st
    else
      odz x2 <|
      onm (x6 - x6 / x2 * x2) fun v4 =>
      odz x2 <|
      onm (x6 / x2) fun v6 =>
      ob (x3 + x7) 605 fun j7 =>
      onm (mA st 3 j7 v4) fun u9 =>
      onm (x4 ||| ((1 : Int32) <<< (v4 &&& 31))) fun v10 =>
      if (u9.1 8) ≤ v4 then
        (S_X6_flag 0).bind fun q12 =>
        onm (x5 + q12) fun v13 =>
        S_X6_lays_c19 K88 n x2 x3 v10 v13 v6 (x7 + 1) u9
      else
        (S_X6_flag 1).bind fun q14 =>
        onm (x5 + q14) fun v15 =>
        S_X6_lays_c19 K88 n x2 x3 v10 v15 v6 (x7 + 1) u9
set_option maxHeartbeats 2000000 in
theorem A_X6_lays_c19 {l : Launch} {G : aG} {ad : Nat → Nat} {h0 : aH} (hok : mOk ad) (hl : l.stackTraces = false) {r : MSt} {K88 : Int32 → Int32 → Int32 → MSt → Option (MSt)} (hK88 : ∀ (w3 : Int32) (w4 : Int32) (w5 : Int32) (st : MSt), K88 w3 w4 w5 st = some r → AW l G mX6_lays 1 0 0 (aP1 none (mh ad r h0)) 88 [(0, .ref (ad 13)), (3, .int w3), (4, .int w4), (5, .int w5)] [] (mh ad st h0) 0 0) : ∀ (n : Nat) (x2 : Int32) (x3 : Int32) (x4 : Int32) (x5 : Int32) (x6 : Int32) (x7 : Int32) (st : MSt), S_X6_lays_c19 K88 n x2 x3 x4 x5 x6 x7 st = some r → AW l G mX6_lays 1 0 0 (aP1 none (mh ad r h0)) 19 [(0, .ref (ad 13)), (2, .int x2), (3, .int x3), (4, .int x4), (5, .int x5), (6, .int x6), (7, .int x7)] [] (mh ad st h0) 0 0 := by
  intro n
  induction n with
  | zero =>
    intro x2 x3 x4 x5 x6 x7 st hf
    rw [S_X6_lays_c19] at hf
    cases hf
  | succ n ih =>
    intro x2 x3 x4 x5 x6 x7 st hf
    rw [S_X6_lays_c19] at hf
    refine aw_iload 6 dX6_lays_19 rfl ?_
    refine aw_aload_n 0 dX6_lays_21 rfl rfl ?_
    refine aw_get (v := .int (st.1 7)) (mg_o hok) rfl in_X6 10 (by decide) q1749 (Or.inl rfl) rfl dX6_lays_22 ?_
    refine aw_icmp_ge 88 dX6_lays_25 (by decide) (fun c2 => ?_) (fun c2 => ?_)
    · have hf := it_t c2 hf
      refine aw_sub [0, 2, 3, 4] rfl ?_
      exact hK88 x3 x4 x5 st hf
    · have hf := it_f c2 hf
      refine aw_iload 5 dX6_lays_28 rfl ?_
      refine aw_iload_n 1 dX6_lays_30 rfl rfl ?_
      obtain ⟨z3, hf⟩ := odz_s hf
      refine aw_irem dX6_lays_31 z3 ?_
      refine aw_topi (fun v4 ev4 => ?_)
      have hf := onm_a ev4 hf
      refine aw_istore (lv' := [(8, .int v4), (0, .ref (ad 13)), (2, .int x2), (3, .int x3), (4, .int x4), (5, .int x5), (6, .int x6), (7, .int x7)]) dX6_lays_32 (Nat.le_of_ble_eq_true rfl) rfl ?_
      refine aw_iload 6 dX6_lays_34 rfl ?_
      refine aw_iload_n 2 dX6_lays_36 rfl rfl ?_
      obtain ⟨z5, hf⟩ := odz_s hf
      refine aw_idiv dX6_lays_37 z5 ?_
      refine aw_topi (fun v6 ev6 => ?_)
      have hf := onm_a ev6 hf
      refine aw_istore (lv' := [(6, .int v6), (8, .int v4), (0, .ref (ad 13)), (2, .int x2), (3, .int x3), (4, .int x4), (5, .int x5), (7, .int x7)]) dX6_lays_38 (Nat.le_of_ble_eq_true rfl) rfl ?_
      refine aw_aload_n 2 dX6_lays_40 rfl rfl ?_
      refine aw_get (v := .ref (ad 3)) (mg_o hok) rfl in_X6 13 (by decide) q1752 (Or.inl rfl) rfl dX6_lays_41 ?_
      refine aw_iload_n 4 dX6_lays_44 rfl rfl ?_
      refine aw_iload 7 dX6_lays_45 rfl ?_
      refine aw_iadd dX6_lays_47 ?_
      refine aw_iload 1 dX6_lays_48 rfl ?_
      obtain ⟨j7, z8, ej7, hf⟩ := ob_s hf
      refine aw_iastj (mg_3 hok) z8 ej7 (mu_3 hok) dX6_lays_50 ?_
      refine aw_st (fun u9 eu9 => ?_)
      have hf := onm_a eu9 hf
      refine aw_iload 5 dX6_lays_51 rfl ?_
      refine aw_iconst (v := 1) dX6_lays_53 (by decide) ?_
      refine aw_iload 1 dX6_lays_54 rfl ?_
      refine aw_ishl dX6_lays_56 ?_
      refine aw_ior dX6_lays_57 ?_
      refine aw_topi (fun v10 ev10 => ?_)
      have hf := onm_a ev10 hf
      refine aw_istore (lv' := [(4, .int v10), (6, .int v6), (8, .int v4), (0, .ref (ad 13)), (2, .int x2), (3, .int x3), (5, .int x5), (7, .int x7)]) dX6_lays_58 (Nat.le_of_ble_eq_true rfl) rfl ?_
      refine aw_iload 6 dX6_lays_60 rfl ?_
      refine aw_iload 2 dX6_lays_62 rfl ?_
      refine aw_aload_n 3 dX6_lays_64 rfl rfl ?_
      refine aw_get (v := .int (u9.1 8)) (mg_o hok) rfl in_X6 11 (by decide) q1750 (Or.inl rfl) rfl dX6_lays_65 ?_
      refine aw_icmp_ge 75 dX6_lays_68 (by decide) (fun c11 => ?_) (fun c11 => ?_)
      · have hf := it_t c11 hf
        refine aw_iconst (v := 0) dX6_lays_75 (by decide) ?_
        obtain ⟨q12, eq12, hf⟩ := Option.bind_eq_some_iff.mp hf
        refine aw_callS (rest := [.int x5]) (C_X6_flag hl eq12) nX6_flag q1865 q1866 q137 q1867 dX6_lays_76 rfl (by decide) (by decide) (Nat.le_of_ble_eq_true rfl) (Nat.le_refl _) (Nat.le_refl _) (aP1_i ?_) aP1_x
        refine aw_iadd dX6_lays_79 ?_
        refine aw_topi (fun v13 ev13 => ?_)
        have hf := onm_a ev13 hf
        refine aw_istore (lv' := [(5, .int v13), (4, .int v10), (6, .int v6), (8, .int v4), (0, .ref (ad 13)), (2, .int x2), (3, .int x3), (7, .int x7)]) dX6_lays_80 (Nat.le_of_ble_eq_true rfl) rfl ?_
        refine aw_iinc 7 (v := x7 + 1) (lv' := [(7, .int (x7 + 1)), (5, .int v13), (4, .int v10), (6, .int v6), (8, .int v4), (0, .ref (ad 13)), (2, .int x2), (3, .int x3)]) dX6_lays_82 rfl rfl (Nat.le_of_ble_eq_true rfl) rfl ?_
        refine aw_goto 19 dX6_lays_85 (by decide) ?_
        refine aw_sub [5, 6, 7, 2, 1, 3, 0] rfl ?_
        exact ih x2 x3 v10 v13 v6 (x7 + 1) u9 hf
      · have hf := it_f c11 hf
        refine aw_iconst (v := 1) dX6_lays_71 (by decide) ?_
        refine aw_goto 76 dX6_lays_72 (by decide) ?_
        obtain ⟨q14, eq14, hf⟩ := Option.bind_eq_some_iff.mp hf
        refine aw_callS (rest := [.int x5]) (C_X6_flag hl eq14) nX6_flag q1865 q1866 q137 q1867 dX6_lays_76 rfl (by decide) (by decide) (Nat.le_of_ble_eq_true rfl) (Nat.le_refl _) (Nat.le_refl _) (aP1_i ?_) aP1_x
        refine aw_iadd dX6_lays_79 ?_
        refine aw_topi (fun v15 ev15 => ?_)
        have hf := onm_a ev15 hf
        refine aw_istore (lv' := [(5, .int v15), (4, .int v10), (6, .int v6), (8, .int v4), (0, .ref (ad 13)), (2, .int x2), (3, .int x3), (7, .int x7)]) dX6_lays_80 (Nat.le_of_ble_eq_true rfl) rfl ?_
        refine aw_iinc 7 (v := x7 + 1) (lv' := [(7, .int (x7 + 1)), (5, .int v15), (4, .int v10), (6, .int v6), (8, .int v4), (0, .ref (ad 13)), (2, .int x2), (3, .int x3)]) dX6_lays_82 rfl rfl (Nat.le_of_ble_eq_true rfl) rfl ?_
        refine aw_goto 19 dX6_lays_85 (by decide) ?_
        refine aw_sub [5, 6, 7, 2, 1, 3, 0] rfl ?_
        exact ih x2 x3 v10 v15 v6 (x7 + 1) u9 hf
def S_X6_lays_j265 (K126 : Int32 → Int32 → Int32 → MSt → Option (MSt)) (n : Nat) (x3 : Int32) (x7 : Int32) (x8 : Int32) (x9 : Int32) (xs0 : Int32) (xs1 : Int32) (st : MSt) : Option (MSt) :=
  ob xs1 480 fun j41 =>
  onm (mA st 4 j41 xs0) fun u43 =>
  if x7 = ((u43.1 8) - (2 : Int32)) then
    ob (((4 : Int32) * (u43.1 9)) + (3 : Int32)) 480 fun j50 =>
    onm (mA u43 4 j50 x9) fun u52 =>
    K126 x3 (x7 + 1) (x8 + 1) u52
  else
    ob (((4 : Int32) * (u43.1 9)) + (3 : Int32)) 480 fun j45 =>
    ob (((4 : Int32) * (u43.1 9)) + (3 : Int32)) 480 fun j47 =>
    onm (mA u43 4 j47 (u43.2.1 4 j45)) fun u49 =>
    K126 x3 (x7 + 1) (x8 + 1) u49
set_option maxHeartbeats 2000000 in
theorem A_X6_lays_j265 {l : Launch} {G : aG} {ad : Nat → Nat} {h0 : aH} (hok : mOk ad) (hl : l.stackTraces = false) {r : MSt} {K126 : Int32 → Int32 → Int32 → MSt → Option (MSt)} (hK126 : ∀ (w3 : Int32) (w7 : Int32) (w8 : Int32) (st : MSt), K126 w3 w7 w8 st = some r → AW l G mX6_lays 1 0 0 (aP1 none (mh ad r h0)) 126 [(0, .ref (ad 13)), (3, .int w3), (7, .int w7), (8, .int w8)] [] (mh ad st h0) 0 0) : ∀ (n : Nat) (x3 : Int32) (x7 : Int32) (x8 : Int32) (x9 : Int32) (xs0 : Int32) (xs1 : Int32) (st : MSt), S_X6_lays_j265 K126 n x3 x7 x8 x9 xs0 xs1 st = some r → AW l G mX6_lays 1 0 0 (aP1 none (mh ad r h0)) 265 [(0, .ref (ad 13)), (3, .int x3), (7, .int x7), (8, .int x8), (9, .int x9)] [.int xs0, .int xs1, .ref (ad 4)] (mh ad st h0) 0 0 := by
  intro n x3 x7 x8 x9 xs0 xs1 st hf
  rw [S_X6_lays_j265] at hf
  obtain ⟨j41, z42, ej41, hf⟩ := ob_s hf
  refine aw_iastj (mg_4 hok) z42 ej41 (mu_4 hok) dX6_lays_265 ?_
  refine aw_st (fun u43 eu43 => ?_)
  have hf := onm_a eu43 hf
  refine aw_aload_n 0 dX6_lays_266 rfl rfl ?_
  refine aw_get (v := .ref (ad 4)) (mg_o hok) rfl in_X6 14 (by decide) q1753 (Or.inl rfl) rfl dX6_lays_267 ?_
  refine aw_iconst (v := 4) dX6_lays_270 (by decide) ?_
  refine aw_aload_n 0 dX6_lays_271 rfl rfl ?_
  refine aw_get (v := .int (u43.1 9)) (mg_o hok) rfl in_X6 12 (by decide) q1751 (Or.inl rfl) rfl dX6_lays_272 ?_
  refine aw_imul dX6_lays_275 ?_
  refine aw_iconst (v := 3) dX6_lays_276 (by decide) ?_
  refine aw_iadd dX6_lays_277 ?_
  refine aw_iload 2 dX6_lays_278 rfl ?_
  refine aw_aload_n 0 dX6_lays_280 rfl rfl ?_
  refine aw_get (v := .int (u43.1 8)) (mg_o hok) rfl in_X6 11 (by decide) q1750 (Or.inl rfl) rfl dX6_lays_281 ?_
  refine aw_iconst (v := 2) dX6_lays_284 (by decide) ?_
  refine aw_isub dX6_lays_285 ?_
  refine aw_icmp_ne 294 dX6_lays_286 (by decide) (fun c44 => ?_) (fun c44 => ?_)
  · have hf := it_f c44 hf
    refine aw_aload_n 0 dX6_lays_294 rfl rfl ?_
    refine aw_get (v := .ref (ad 4)) (mg_o hok) rfl in_X6 14 (by decide) q1753 (Or.inl rfl) rfl dX6_lays_295 ?_
    refine aw_iconst (v := 4) dX6_lays_298 (by decide) ?_
    refine aw_aload_n 0 dX6_lays_299 rfl rfl ?_
    refine aw_get (v := .int (u43.1 9)) (mg_o hok) rfl in_X6 12 (by decide) q1751 (Or.inl rfl) rfl dX6_lays_300 ?_
    refine aw_imul dX6_lays_303 ?_
    refine aw_iconst (v := 3) dX6_lays_304 (by decide) ?_
    refine aw_iadd dX6_lays_305 ?_
    obtain ⟨j45, z46, ej45, hf⟩ := ob_s hf
    refine aw_ialdj (mg_4 hok) z46 ej45 dX6_lays_306 ?_
    obtain ⟨j47, z48, ej47, hf⟩ := ob_s hf
    refine aw_iastj (mg_4 hok) z48 ej47 (mu_4 hok) dX6_lays_307 ?_
    refine aw_st (fun u49 eu49 => ?_)
    have hf := onm_a eu49 hf
    refine aw_iinc 2 (v := x7 + 1) (lv' := [(7, .int (x7 + 1)), (0, .ref (ad 13)), (3, .int x3), (8, .int x8), (9, .int x9)]) dX6_lays_308 rfl rfl (Nat.le_of_ble_eq_true rfl) rfl ?_
    refine aw_iinc 3 (v := x8 + 1) (lv' := [(8, .int (x8 + 1)), (7, .int (x7 + 1)), (0, .ref (ad 13)), (3, .int x3), (9, .int x9)]) dX6_lays_311 rfl rfl (Nat.le_of_ble_eq_true rfl) rfl ?_
    refine aw_goto 126 dX6_lays_314 (by decide) ?_
    refine aw_sub [2, 3, 1, 0] rfl ?_
    exact hK126 x3 (x7 + 1) (x8 + 1) u49 hf
  · have hf := it_t c44 hf
    refine aw_iload 4 dX6_lays_289 rfl ?_
    refine aw_goto 307 dX6_lays_291 (by decide) ?_
    obtain ⟨j50, z51, ej50, hf⟩ := ob_s hf
    refine aw_iastj (mg_4 hok) z51 ej50 (mu_4 hok) dX6_lays_307 ?_
    refine aw_st (fun u52 eu52 => ?_)
    have hf := onm_a eu52 hf
    refine aw_iinc 2 (v := x7 + 1) (lv' := [(7, .int (x7 + 1)), (0, .ref (ad 13)), (3, .int x3), (8, .int x8), (9, .int x9)]) dX6_lays_308 rfl rfl (Nat.le_of_ble_eq_true rfl) rfl ?_
    refine aw_iinc 3 (v := x8 + 1) (lv' := [(8, .int (x8 + 1)), (7, .int (x7 + 1)), (0, .ref (ad 13)), (3, .int x3), (9, .int x9)]) dX6_lays_311 rfl rfl (Nat.le_of_ble_eq_true rfl) rfl ?_
    refine aw_goto 126 dX6_lays_314 (by decide) ?_
    refine aw_sub [2, 3, 1, 0] rfl ?_
    exact hK126 x3 (x7 + 1) (x8 + 1) u52 hf
def S_X6_lays_j223 (K126 : Int32 → Int32 → Int32 → MSt → Option (MSt)) (n : Nat) (x3 : Int32) (x7 : Int32) (x8 : Int32) (x9 : Int32) (xs0 : Int32) (xs1 : Int32) (st : MSt) : Option (MSt) :=
  ob xs1 480 fun j35 =>
  onm (mA st 4 j35 xs0) fun u37 =>
  if x7 = ((u37.1 8) - (1 : Int32)) then
    S_X6_lays_j265 K126 n x3 x7 x8 x9 x9 (((4 : Int32) * (u37.1 9)) + (2 : Int32)) u37
  else
    ob (((4 : Int32) * (u37.1 9)) + (2 : Int32)) 480 fun j39 =>
    S_X6_lays_j265 K126 n x3 x7 x8 x9 (u37.2.1 4 j39) (((4 : Int32) * (u37.1 9)) + (2 : Int32)) u37
set_option maxHeartbeats 2000000 in
theorem A_X6_lays_j223 {l : Launch} {G : aG} {ad : Nat → Nat} {h0 : aH} (hok : mOk ad) (hl : l.stackTraces = false) {r : MSt} {K126 : Int32 → Int32 → Int32 → MSt → Option (MSt)} (hK126 : ∀ (w3 : Int32) (w7 : Int32) (w8 : Int32) (st : MSt), K126 w3 w7 w8 st = some r → AW l G mX6_lays 1 0 0 (aP1 none (mh ad r h0)) 126 [(0, .ref (ad 13)), (3, .int w3), (7, .int w7), (8, .int w8)] [] (mh ad st h0) 0 0) : ∀ (n : Nat) (x3 : Int32) (x7 : Int32) (x8 : Int32) (x9 : Int32) (xs0 : Int32) (xs1 : Int32) (st : MSt), S_X6_lays_j223 K126 n x3 x7 x8 x9 xs0 xs1 st = some r → AW l G mX6_lays 1 0 0 (aP1 none (mh ad r h0)) 223 [(0, .ref (ad 13)), (3, .int x3), (7, .int x7), (8, .int x8), (9, .int x9)] [.int xs0, .int xs1, .ref (ad 4)] (mh ad st h0) 0 0 := by
  intro n x3 x7 x8 x9 xs0 xs1 st hf
  rw [S_X6_lays_j223] at hf
  obtain ⟨j35, z36, ej35, hf⟩ := ob_s hf
  refine aw_iastj (mg_4 hok) z36 ej35 (mu_4 hok) dX6_lays_223 ?_
  refine aw_st (fun u37 eu37 => ?_)
  have hf := onm_a eu37 hf
  refine aw_aload_n 0 dX6_lays_224 rfl rfl ?_
  refine aw_get (v := .ref (ad 4)) (mg_o hok) rfl in_X6 14 (by decide) q1753 (Or.inl rfl) rfl dX6_lays_225 ?_
  refine aw_iconst (v := 4) dX6_lays_228 (by decide) ?_
  refine aw_aload_n 0 dX6_lays_229 rfl rfl ?_
  refine aw_get (v := .int (u37.1 9)) (mg_o hok) rfl in_X6 12 (by decide) q1751 (Or.inl rfl) rfl dX6_lays_230 ?_
  refine aw_imul dX6_lays_233 ?_
  refine aw_iconst (v := 2) dX6_lays_234 (by decide) ?_
  refine aw_iadd dX6_lays_235 ?_
  refine aw_iload 2 dX6_lays_236 rfl ?_
  refine aw_aload_n 0 dX6_lays_238 rfl rfl ?_
  refine aw_get (v := .int (u37.1 8)) (mg_o hok) rfl in_X6 11 (by decide) q1750 (Or.inl rfl) rfl dX6_lays_239 ?_
  refine aw_iconst (v := 1) dX6_lays_242 (by decide) ?_
  refine aw_isub dX6_lays_243 ?_
  refine aw_icmp_ne 252 dX6_lays_244 (by decide) (fun c38 => ?_) (fun c38 => ?_)
  · have hf := it_f c38 hf
    refine aw_aload_n 0 dX6_lays_252 rfl rfl ?_
    refine aw_get (v := .ref (ad 4)) (mg_o hok) rfl in_X6 14 (by decide) q1753 (Or.inl rfl) rfl dX6_lays_253 ?_
    refine aw_iconst (v := 4) dX6_lays_256 (by decide) ?_
    refine aw_aload_n 0 dX6_lays_257 rfl rfl ?_
    refine aw_get (v := .int (u37.1 9)) (mg_o hok) rfl in_X6 12 (by decide) q1751 (Or.inl rfl) rfl dX6_lays_258 ?_
    refine aw_imul dX6_lays_261 ?_
    refine aw_iconst (v := 2) dX6_lays_262 (by decide) ?_
    refine aw_iadd dX6_lays_263 ?_
    obtain ⟨j39, z40, ej39, hf⟩ := ob_s hf
    refine aw_ialdj (mg_4 hok) z40 ej39 dX6_lays_264 ?_
    exact A_X6_lays_j265 hok hl hK126 n x3 x7 x8 x9 (u37.2.1 4 j39) (((4 : Int32) * (u37.1 9)) + (2 : Int32)) u37 hf
  · have hf := it_t c38 hf
    refine aw_iload 4 dX6_lays_247 rfl ?_
    refine aw_goto 265 dX6_lays_249 (by decide) ?_
    exact A_X6_lays_j265 hok hl hK126 n x3 x7 x8 x9 x9 (((4 : Int32) * (u37.1 9)) + (2 : Int32)) u37 hf
def S_X6_lays_j186 (K126 : Int32 → Int32 → Int32 → MSt → Option (MSt)) (n : Nat) (x3 : Int32) (x7 : Int32) (x8 : Int32) (x9 : Int32) (xs0 : Int32) (xs1 : Int32) (st : MSt) : Option (MSt) :=
  ob xs1 480 fun j29 =>
  onm (mA st 4 j29 xs0) fun u31 =>
  if x7 = 1 then
    S_X6_lays_j223 K126 n x3 x7 x8 x9 x9 (((4 : Int32) * (u31.1 9)) + (1 : Int32)) u31
  else
    ob (((4 : Int32) * (u31.1 9)) + (1 : Int32)) 480 fun j33 =>
    S_X6_lays_j223 K126 n x3 x7 x8 x9 (u31.2.1 4 j33) (((4 : Int32) * (u31.1 9)) + (1 : Int32)) u31
set_option maxHeartbeats 2000000 in
theorem A_X6_lays_j186 {l : Launch} {G : aG} {ad : Nat → Nat} {h0 : aH} (hok : mOk ad) (hl : l.stackTraces = false) {r : MSt} {K126 : Int32 → Int32 → Int32 → MSt → Option (MSt)} (hK126 : ∀ (w3 : Int32) (w7 : Int32) (w8 : Int32) (st : MSt), K126 w3 w7 w8 st = some r → AW l G mX6_lays 1 0 0 (aP1 none (mh ad r h0)) 126 [(0, .ref (ad 13)), (3, .int w3), (7, .int w7), (8, .int w8)] [] (mh ad st h0) 0 0) : ∀ (n : Nat) (x3 : Int32) (x7 : Int32) (x8 : Int32) (x9 : Int32) (xs0 : Int32) (xs1 : Int32) (st : MSt), S_X6_lays_j186 K126 n x3 x7 x8 x9 xs0 xs1 st = some r → AW l G mX6_lays 1 0 0 (aP1 none (mh ad r h0)) 186 [(0, .ref (ad 13)), (3, .int x3), (7, .int x7), (8, .int x8), (9, .int x9)] [.int xs0, .int xs1, .ref (ad 4)] (mh ad st h0) 0 0 := by
  intro n x3 x7 x8 x9 xs0 xs1 st hf
  rw [S_X6_lays_j186] at hf
  obtain ⟨j29, z30, ej29, hf⟩ := ob_s hf
  refine aw_iastj (mg_4 hok) z30 ej29 (mu_4 hok) dX6_lays_186 ?_
  refine aw_st (fun u31 eu31 => ?_)
  have hf := onm_a eu31 hf
  refine aw_aload_n 0 dX6_lays_187 rfl rfl ?_
  refine aw_get (v := .ref (ad 4)) (mg_o hok) rfl in_X6 14 (by decide) q1753 (Or.inl rfl) rfl dX6_lays_188 ?_
  refine aw_iconst (v := 4) dX6_lays_191 (by decide) ?_
  refine aw_aload_n 0 dX6_lays_192 rfl rfl ?_
  refine aw_get (v := .int (u31.1 9)) (mg_o hok) rfl in_X6 12 (by decide) q1751 (Or.inl rfl) rfl dX6_lays_193 ?_
  refine aw_imul dX6_lays_196 ?_
  refine aw_iconst (v := 1) dX6_lays_197 (by decide) ?_
  refine aw_iadd dX6_lays_198 ?_
  refine aw_iload 2 dX6_lays_199 rfl ?_
  refine aw_iconst (v := 1) dX6_lays_201 (by decide) ?_
  refine aw_icmp_ne 210 dX6_lays_202 (by decide) (fun c32 => ?_) (fun c32 => ?_)
  · have hf := it_f c32 hf
    refine aw_aload_n 0 dX6_lays_210 rfl rfl ?_
    refine aw_get (v := .ref (ad 4)) (mg_o hok) rfl in_X6 14 (by decide) q1753 (Or.inl rfl) rfl dX6_lays_211 ?_
    refine aw_iconst (v := 4) dX6_lays_214 (by decide) ?_
    refine aw_aload_n 0 dX6_lays_215 rfl rfl ?_
    refine aw_get (v := .int (u31.1 9)) (mg_o hok) rfl in_X6 12 (by decide) q1751 (Or.inl rfl) rfl dX6_lays_216 ?_
    refine aw_imul dX6_lays_219 ?_
    refine aw_iconst (v := 1) dX6_lays_220 (by decide) ?_
    refine aw_iadd dX6_lays_221 ?_
    obtain ⟨j33, z34, ej33, hf⟩ := ob_s hf
    refine aw_ialdj (mg_4 hok) z34 ej33 dX6_lays_222 ?_
    exact A_X6_lays_j223 hok hl hK126 n x3 x7 x8 x9 (u31.2.1 4 j33) (((4 : Int32) * (u31.1 9)) + (1 : Int32)) u31 hf
  · have hf := it_t c32 hf
    refine aw_iload 4 dX6_lays_205 rfl ?_
    refine aw_goto 223 dX6_lays_207 (by decide) ?_
    exact A_X6_lays_j223 hok hl hK126 n x3 x7 x8 x9 x9 (((4 : Int32) * (u31.1 9)) + (1 : Int32)) u31 hf
def S_X6_lays_c126 : Nat → Int32 → Int32 → Int32 → MSt → Option (MSt)
  | 0, _, _, _, _ => none
  | n + 1, x3, x7, x8, st =>
    if (st.1 7) ≤ x8 then
      onm (mI st 9 ((st.1 9) + (1 : Int32))) fun u21 =>
      some u21
    else
      ob (x3 + x8) 605 fun j22 =>
      onm (st.2.1 3 j22) fun v24 =>
      if (st.1 8) ≤ v24 then
        S_X6_lays_c126 n x3 x7 (x8 + 1) st
      else
        if x7 = 0 then
          S_X6_lays_j186 (S_X6_lays_c126 n) n x3 x7 x8 v24 v24 ((4 : Int32) * (st.1 9)) st
        else
          ob ((4 : Int32) * (st.1 9)) 480 fun j27 =>
          S_X6_lays_j186 (S_X6_lays_c126 n) n x3 x7 x8 v24 (st.2.1 4 j27) ((4 : Int32) * (st.1 9)) st
set_option maxHeartbeats 2000000 in
theorem A_X6_lays_c126 {l : Launch} {G : aG} {ad : Nat → Nat} {h0 : aH} (hok : mOk ad) (hl : l.stackTraces = false) {r : MSt} : ∀ (n : Nat) (x3 : Int32) (x7 : Int32) (x8 : Int32) (st : MSt), S_X6_lays_c126 n x3 x7 x8 st = some r → AW l G mX6_lays 1 0 0 (aP1 none (mh ad r h0)) 126 [(0, .ref (ad 13)), (3, .int x3), (7, .int x7), (8, .int x8)] [] (mh ad st h0) 0 0 := by
  intro n
  induction n with
  | zero =>
    intro x3 x7 x8 st hf
    rw [S_X6_lays_c126] at hf
    cases hf
  | succ n ih =>
    intro x3 x7 x8 st hf
    rw [S_X6_lays_c126] at hf
    refine aw_iload 3 dX6_lays_126 rfl ?_
    refine aw_aload_n 0 dX6_lays_128 rfl rfl ?_
    refine aw_get (v := .int (st.1 7)) (mg_o hok) rfl in_X6 10 (by decide) q1749 (Or.inl rfl) rfl dX6_lays_129 ?_
    refine aw_icmp_ge 317 dX6_lays_132 (by decide) (fun c20 => ?_) (fun c20 => ?_)
    · have hf := it_t c20 hf
      refine aw_aload_n 0 dX6_lays_317 rfl rfl ?_
      refine aw_dup dX6_lays_318 rfl ?_
      refine aw_get (v := .int (st.1 9)) (mg_o hok) rfl in_X6 12 (by decide) q1751 (Or.inl rfl) rfl dX6_lays_319 ?_
      refine aw_iconst (v := 1) dX6_lays_322 (by decide) ?_
      refine aw_iadd dX6_lays_323 ?_
      refine aw_put (mg_o hok) rfl in_X6 tyX6_ok nmX6 12 (by decide) q1751 (Or.inl rfl) rfl rfl rfl (Nat.le_of_ble_eq_true rfl) (mu_i9 hok) dX6_lays_324 ?_
      refine aw_st (fun u21 eu21 => ?_)
      have hf := onm_a eu21 hf
      cases hf
      exact aw_vret rfl dX6_lays_327 aP1_rfl (Nat.le_refl _) (Nat.le_refl _)
    · have hf := it_f c20 hf
      refine aw_aload_n 0 dX6_lays_135 rfl rfl ?_
      refine aw_get (v := .ref (ad 3)) (mg_o hok) rfl in_X6 13 (by decide) q1752 (Or.inl rfl) rfl dX6_lays_136 ?_
      refine aw_iload_n 1 dX6_lays_139 rfl rfl ?_
      refine aw_iload 3 dX6_lays_140 rfl ?_
      refine aw_iadd dX6_lays_142 ?_
      obtain ⟨j22, z23, ej22, hf⟩ := ob_s hf
      refine aw_ialdj (mg_3 hok) z23 ej22 dX6_lays_143 ?_
      refine aw_topi (fun v24 ev24 => ?_)
      have hf := onm_a ev24 hf
      refine aw_istore (lv' := [(9, .int v24), (0, .ref (ad 13)), (3, .int x3), (7, .int x7), (8, .int x8)]) dX6_lays_144 (Nat.le_of_ble_eq_true rfl) rfl ?_
      refine aw_iload 0 dX6_lays_146 rfl ?_
      refine aw_aload_n 1 dX6_lays_148 rfl rfl ?_
      refine aw_get (v := .int (st.1 8)) (mg_o hok) rfl in_X6 11 (by decide) q1750 (Or.inl rfl) rfl dX6_lays_149 ?_
      refine aw_icmp_ge 311 dX6_lays_152 (by decide) (fun c25 => ?_) (fun c25 => ?_)
      · have hf := it_t c25 hf
        refine aw_iinc 4 (v := x8 + 1) (lv' := [(8, .int (x8 + 1)), (9, .int v24), (0, .ref (ad 13)), (3, .int x3), (7, .int x7)]) dX6_lays_311 rfl rfl (Nat.le_of_ble_eq_true rfl) rfl ?_
        refine aw_goto 126 dX6_lays_314 (by decide) ?_
        refine aw_sub [2, 3, 4, 0] rfl ?_
        exact ih x3 x7 (x8 + 1) st hf
      · have hf := it_f c25 hf
        refine aw_aload_n 1 dX6_lays_155 rfl rfl ?_
        refine aw_get (v := .ref (ad 4)) (mg_o hok) rfl in_X6 14 (by decide) q1753 (Or.inl rfl) rfl dX6_lays_156 ?_
        refine aw_iconst (v := 4) dX6_lays_159 (by decide) ?_
        refine aw_aload_n 1 dX6_lays_160 rfl rfl ?_
        refine aw_get (v := .int (st.1 9)) (mg_o hok) rfl in_X6 12 (by decide) q1751 (Or.inl rfl) rfl dX6_lays_161 ?_
        refine aw_imul dX6_lays_164 ?_
        refine aw_iload 3 dX6_lays_165 rfl ?_
        refine aw_if_ne 175 dX6_lays_167 (by decide) (fun c26 => ?_) (fun c26 => ?_)
        · have hf := it_f c26 hf
          refine aw_aload_n 1 dX6_lays_175 rfl rfl ?_
          refine aw_get (v := .ref (ad 4)) (mg_o hok) rfl in_X6 14 (by decide) q1753 (Or.inl rfl) rfl dX6_lays_176 ?_
          refine aw_iconst (v := 4) dX6_lays_179 (by decide) ?_
          refine aw_aload_n 1 dX6_lays_180 rfl rfl ?_
          refine aw_get (v := .int (st.1 9)) (mg_o hok) rfl in_X6 12 (by decide) q1751 (Or.inl rfl) rfl dX6_lays_181 ?_
          refine aw_imul dX6_lays_184 ?_
          obtain ⟨j27, z28, ej27, hf⟩ := ob_s hf
          refine aw_ialdj (mg_4 hok) z28 ej27 dX6_lays_185 ?_
          refine aw_sub [1, 2, 3, 4, 0] rfl ?_
          exact A_X6_lays_j186 hok hl (fun w3 w7 w8 wst hf => ih w3 w7 w8 wst hf) n x3 x7 x8 v24 (st.2.1 4 j27) ((4 : Int32) * (st.1 9)) st hf
        · have hf := it_t c26 hf
          refine aw_iload 0 dX6_lays_170 rfl ?_
          refine aw_goto 186 dX6_lays_172 (by decide) ?_
          refine aw_sub [1, 2, 3, 4, 0] rfl ?_
          exact A_X6_lays_j186 hok hl (fun w3 w7 w8 wst hf => ih w3 w7 w8 wst hf) n x3 x7 x8 v24 v24 ((4 : Int32) * (st.1 9)) st hf
def S_X6_lays (n : Nat) (x1 : Int32) (x2 : Int32) (st : MSt) : Option (MSt) :=
  onm ((5 : Int32) * (st.1 9)) fun v1 =>
  S_X6_lays_c19
    (fun y16_3 y16_4 y16_5 u17 => 
        if y16_5 = (u17.1 8) then
          if (y16_4 &&& (((1 : Int32) <<< ((u17.1 8) &&& 31)) - (1 : Int32))) = (((1 : Int32) <<< ((u17.1 8) &&& 31)) - (1 : Int32)) then
            S_X6_lays_c126 n y16_3 0 0 u17
          else
            some u17
        else
          some u17)
     n x2 v1 0 0 x1 0 st
set_option maxHeartbeats 2000000 in
theorem C_X6_lays {l : Launch} {G : aG} {ad : Nat → Nat} {h0 : aH} (hok : mOk ad) (hl : l.stackTraces = false) {n : Nat} {x1 : Int32} {x2 : Int32} {st : MSt} {r : MSt} (hf : S_X6_lays n x1 x2 st = some r) : aC l G mX6_lays (ws_ yX6_lays cX6_lays 10 none) 1 0 0 [.ref (ad 13), .int x1, .int x2] (mh ad st h0) (aP1 none (mh ad r h0)) := by
  refine aC_of (M := mX6_lays) rfl (by decide) (Nat.le_of_ble_eq_true rfl) hl ?_
  rw [S_X6_lays] at hf
  refine aw_eqv (lv2 := [(0, .ref (ad 13)), (1, .int x1), (2, .int x2)]) rfl rfl rfl rfl ?_
  refine aw_iconst (v := 5) dX6_lays_0 (by decide) ?_
  refine aw_aload_n 0 dX6_lays_1 rfl rfl ?_
  refine aw_get (v := .int (st.1 9)) (mg_o hok) rfl in_X6 12 (by decide) q1751 (Or.inl rfl) rfl dX6_lays_2 ?_
  refine aw_imul dX6_lays_5 ?_
  refine aw_topi (fun v1 ev1 => ?_)
  have hf := onm_a ev1 hf
  refine aw_istore_n (lv' := [(3, .int v1), (0, .ref (ad 13)), (1, .int x1), (2, .int x2)]) dX6_lays_6 rfl (Nat.le_of_ble_eq_true rfl) rfl ?_
  refine aw_iconst (v := 0) dX6_lays_7 (by decide) ?_
  refine aw_istore (lv' := [(4, .int 0), (3, .int v1), (0, .ref (ad 13)), (1, .int x1), (2, .int x2)]) dX6_lays_8 (Nat.le_of_ble_eq_true rfl) rfl ?_
  refine aw_iconst (v := 0) dX6_lays_10 (by decide) ?_
  refine aw_istore (lv' := [(5, .int 0), (4, .int 0), (3, .int v1), (0, .ref (ad 13)), (1, .int x1), (2, .int x2)]) dX6_lays_11 (Nat.le_of_ble_eq_true rfl) rfl ?_
  refine aw_iload_n 4 dX6_lays_13 rfl rfl ?_
  refine aw_istore (lv' := [(6, .int x1), (5, .int 0), (4, .int 0), (3, .int v1), (0, .ref (ad 13)), (1, .int x1), (2, .int x2)]) dX6_lays_14 (Nat.le_of_ble_eq_true rfl) rfl ?_
  refine aw_iconst (v := 0) dX6_lays_16 (by decide) ?_
  refine aw_istore (lv' := [(7, .int 0), (6, .int x1), (5, .int 0), (4, .int 0), (3, .int v1), (0, .ref (ad 13)), (1, .int x1), (2, .int x2)]) dX6_lays_17 (Nat.le_of_ble_eq_true rfl) rfl ?_
  refine aw_sub [5, 7, 4, 3, 2, 1, 0] rfl ?_
  refine A_X6_lays_c19 hok hl ?_ n x2 v1 0 0 x1 0 st hf
  · intro y16_3 y16_4 y16_5 u17 hf
    refine aw_iload 3 dX6_lays_88 rfl ?_
    refine aw_aload_n 0 dX6_lays_90 rfl rfl ?_
    refine aw_get (v := .int (u17.1 8)) (mg_o hok) rfl in_X6 11 (by decide) q1750 (Or.inl rfl) rfl dX6_lays_91 ?_
    refine aw_icmp_ne 119 dX6_lays_94 (by decide) (fun c18 => ?_) (fun c18 => ?_)
    · have hf := it_f c18 hf
      cases hf
      exact aw_vret rfl dX6_lays_119 aP1_rfl (Nat.le_refl _) (Nat.le_refl _)
    · have hf := it_t c18 hf
      refine aw_iload 2 dX6_lays_97 rfl ?_
      refine aw_iconst (v := 1) dX6_lays_99 (by decide) ?_
      refine aw_aload_n 0 dX6_lays_100 rfl rfl ?_
      refine aw_get (v := .int (u17.1 8)) (mg_o hok) rfl in_X6 11 (by decide) q1750 (Or.inl rfl) rfl dX6_lays_101 ?_
      refine aw_ishl dX6_lays_104 ?_
      refine aw_iconst (v := 1) dX6_lays_105 (by decide) ?_
      refine aw_isub dX6_lays_106 ?_
      refine aw_iand dX6_lays_107 ?_
      refine aw_iconst (v := 1) dX6_lays_108 (by decide) ?_
      refine aw_aload_n 0 dX6_lays_109 rfl rfl ?_
      refine aw_get (v := .int (u17.1 8)) (mg_o hok) rfl in_X6 11 (by decide) q1750 (Or.inl rfl) rfl dX6_lays_110 ?_
      refine aw_ishl dX6_lays_113 ?_
      refine aw_iconst (v := 1) dX6_lays_114 (by decide) ?_
      refine aw_isub dX6_lays_115 ?_
      refine aw_icmp_eq 120 dX6_lays_116 (by decide) (fun c19 => ?_) (fun c19 => ?_)
      · have hf := it_t c19 hf
        refine aw_iconst (v := 0) dX6_lays_120 (by decide) ?_
        refine aw_istore (lv' := [(7, .int 0), (0, .ref (ad 13)), (3, .int y16_3), (4, .int y16_4), (5, .int y16_5)]) dX6_lays_121 (Nat.le_of_ble_eq_true rfl) rfl ?_
        refine aw_iconst (v := 0) dX6_lays_123 (by decide) ?_
        refine aw_istore (lv' := [(8, .int 0), (7, .int 0), (0, .ref (ad 13)), (3, .int y16_3), (4, .int y16_4), (5, .int y16_5)]) dX6_lays_124 (Nat.le_of_ble_eq_true rfl) rfl ?_
        refine aw_sub [2, 3, 1, 0] rfl ?_
        exact A_X6_lays_c126 hok hl n y16_3 0 0 u17 hf
      · have hf := it_f c19 hf
        cases hf
        exact aw_vret rfl dX6_lays_119 aP1_rfl (Nat.le_refl _) (Nat.le_refl _)
