/-! the model: shallow functions and walks (printed by gen.py) -/
set_option maxRecDepth 100000
abbrev mX6_many : aM := (yX6_many, cX6_many, 3, some .int, [])
theorem nX6_many : aNoMH yX6_many 1 := by decide +kernel
def S_X6_many_c4 : Nat → Int32 → Int32 → Int32 → Option (Int32)
  | 0, _, _, _ => none
  | n + 1, x0, x1, x2 =>
    if 5 ≤ x2 then
      some x1
    else
      onm (x1 + ((x0 >>> (x2 &&& 31)) &&& (1 : Int32))) fun v2 =>
      S_X6_many_c4 n x0 v2 (x2 + 1)
set_option maxHeartbeats 2000000 in
theorem A_X6_many_c4 {l : Launch} {G : aG} {h : aH} (hl : l.stackTraces = false) {r : Int32} : ∀ (n : Nat) (x0 : Int32) (x1 : Int32) (x2 : Int32), S_X6_many_c4 n x0 x1 x2 = some r → AW l G mX6_many 0 0 0 (aP1 (some (.int r)) h) 4 [(0, .int x0), (1, .int x1), (2, .int x2)] [] h 0 0 := by
  intro n
  induction n with
  | zero =>
    intro x0 x1 x2 hf
    rw [S_X6_many_c4] at hf
    cases hf
  | succ n ih =>
    intro x0 x1 x2 hf
    rw [S_X6_many_c4] at hf
    refine aw_iload_n 2 dX6_many_4 rfl rfl ?_
    refine aw_iconst (v := 5) dX6_many_5 (by decide) ?_
    refine aw_icmp_ge 23 dX6_many_6 (by decide) (fun c1 => ?_) (fun c1 => ?_)
    · have hf := it_t c1 hf
      refine aw_iload_n 1 dX6_many_23 rfl rfl ?_
      cases hf
      exact aw_iret rfl dX6_many_24 aP1_rfl (Nat.le_refl _) (Nat.le_refl _)
    · have hf := it_f c1 hf
      refine aw_iload_n 1 dX6_many_9 rfl rfl ?_
      refine aw_iload_n 0 dX6_many_10 rfl rfl ?_
      refine aw_iload_n 2 dX6_many_11 rfl rfl ?_
      refine aw_ishr dX6_many_12 ?_
      refine aw_iconst (v := 1) dX6_many_13 (by decide) ?_
      refine aw_iand dX6_many_14 ?_
      refine aw_iadd dX6_many_15 ?_
      refine aw_topi (fun v2 ev2 => ?_)
      have hf := onm_a ev2 hf
      refine aw_istore_n (lv' := [(1, .int v2), (0, .int x0), (2, .int x2)]) dX6_many_16 rfl (Nat.le_of_ble_eq_true rfl) rfl ?_
      refine aw_iinc 2 (v := x2 + 1) (lv' := [(2, .int (x2 + 1)), (1, .int v2), (0, .int x0)]) dX6_many_17 rfl rfl (Nat.le_of_ble_eq_true rfl) rfl ?_
      refine aw_goto 4 dX6_many_20 (by decide) ?_
      refine aw_sub [2, 1, 0] rfl ?_
      exact ih x0 v2 (x2 + 1) hf
def S_X6_many (n : Nat) (x0 : Int32) : Option (Int32) :=
  S_X6_many_c4 n x0 0 0
set_option maxHeartbeats 2000000 in
theorem C_X6_many {l : Launch} {G : aG} {h : aH} (hl : l.stackTraces = false) {n : Nat} {x0 : Int32} {r : Int32} (hf : S_X6_many n x0 = some r) : aC l G mX6_many (ws_ yX6_many cX6_many 3 (some .int)) 0 0 0 [.int x0] h (aP1 (some (.int r)) h) := by
  refine aC_of (M := mX6_many) rfl (by decide) (Nat.le_of_ble_eq_true rfl) hl ?_
  rw [S_X6_many] at hf
  refine aw_eqv (lv2 := [(0, .int x0)]) rfl rfl rfl rfl ?_
  refine aw_iconst (v := 0) dX6_many_0 (by decide) ?_
  refine aw_istore_n (lv' := [(1, .int 0), (0, .int x0)]) dX6_many_1 rfl (Nat.le_of_ble_eq_true rfl) rfl ?_
  refine aw_iconst (v := 0) dX6_many_2 (by decide) ?_
  refine aw_istore_n (lv' := [(2, .int 0), (1, .int 0), (0, .int x0)]) dX6_many_3 rfl (Nat.le_of_ble_eq_true rfl) rfl ?_
  refine aw_sub [2, 1, 0] rfl ?_
  exact A_X6_many_c4 hl n x0 0 0 hf
abbrev mX6_isSettled : aM := (yX6_isSettled, cX6_isSettled, 2, some .boolean, [])
theorem nX6_isSettled : aNoMH yX6_isSettled 1 := by decide +kernel
def S_X6_isSettled (n : Nat) (x1 : Int32) (st : MSt) : Option (Int32) :=
  (S_X6_many n x1).bind fun q1 =>
  if q1 = 1 then
    some 1
  else
    some 0
set_option maxHeartbeats 2000000 in
theorem C_X6_isSettled {l : Launch} {G : aG} {ad : Nat → Nat} {h0 : aH} (hok : mOk ad) (hl : l.stackTraces = false) {n : Nat} {x1 : Int32} {st : MSt} {r : Int32} (hf : S_X6_isSettled n x1 st = some r) : aC l G mX6_isSettled (ws_ yX6_isSettled cX6_isSettled 2 (some .boolean)) 1 0 0 [.ref (ad 13), .int x1] (mh ad st h0) (aP1 (some (.int r)) (mh ad st h0)) := by
  refine aC_of (M := mX6_isSettled) rfl (by decide) (Nat.le_of_ble_eq_true rfl) hl ?_
  rw [S_X6_isSettled] at hf
  refine aw_eqv (lv2 := [(0, .ref (ad 13)), (1, .int x1)]) rfl rfl rfl rfl ?_
  refine aw_iload_n 1 dX6_isSettled_0 rfl rfl ?_
  obtain ⟨q1, eq1, hf⟩ := Option.bind_eq_some_iff.mp hf
  refine aw_callS (rest := []) (C_X6_many hl eq1) nX6_many q1998 q1999 q137 q2000 dX6_isSettled_1 rfl (by decide) (by decide) (Nat.le_of_ble_eq_true rfl) (Nat.le_refl _) (Nat.le_refl _) (aP1_i ?_) aP1_x
  refine aw_iconst (v := 1) dX6_isSettled_4 (by decide) ?_
  refine aw_icmp_ne 12 dX6_isSettled_5 (by decide) (fun c2 => ?_) (fun c2 => ?_)
  · have hf := it_f c2 hf
    refine aw_iconst (v := 0) dX6_isSettled_12 (by decide) ?_
    cases hf
    exact aw_zret rfl rfl dX6_isSettled_13 aP1_rfl (Nat.le_refl _) (Nat.le_refl _)
  · have hf := it_t c2 hf
    refine aw_iconst (v := 1) dX6_isSettled_8 (by decide) ?_
    refine aw_goto 13 dX6_isSettled_9 (by decide) ?_
    cases hf
    exact aw_zret rfl rfl dX6_isSettled_13 aP1_rfl (Nat.le_refl _) (Nat.le_refl _)
abbrev mX6_settled : aM := (yX6_settled, cX6_settled, 4, some .long, [])
theorem nX6_settled : aNoMH yX6_settled 0 := by decide +kernel
def S_X6_settled_c9 : Nat → Int64 → Int32 → MSt → Option (Int64 × MSt)
  | 0, _, _, _ => none
  | n + 1, x1, x3, st =>
    (S_X6_cells st).bind fun q2 =>
    if q2 ≤ x3 then
      some (x1, st)
    else
      ob ((23 : Int32) + x3) 432 fun j4 =>
      (S_X6_isSettled n (st.2.1 0 j4) st).bind fun q6 =>
      if q6 = 0 then
        onm (x1 ||| (0 : Int64)) fun v8 =>
        S_X6_settled_c9 n v8 (x3 + 1) st
      else
        onm (x1 ||| ((1 : Int64) <<< (x3.toInt64 &&& 63))) fun v9 =>
        S_X6_settled_c9 n v9 (x3 + 1) st
set_option maxHeartbeats 2000000 in
theorem A_X6_settled_c9 {l : Launch} {G : aG} {ad : Nat → Nat} {h0 : aH} (hok : mOk ad) (hl : l.stackTraces = false) {r : Int64 × MSt} : ∀ (n : Nat) (x1 : Int64) (x3 : Int32) (st : MSt), S_X6_settled_c9 n x1 x3 st = some r → AW l G mX6_settled 2 0 0 (aP1 (some (.long r.1)) (mh ad r.2 h0)) 9 [(0, .ref (ad 13)), (1, .long x1), (3, .int x3)] [] (mh ad st h0) 0 0 := by
  intro n
  induction n with
  | zero =>
    intro x1 x3 st hf
    rw [S_X6_settled_c9] at hf
    cases hf
  | succ n ih =>
    intro x1 x3 st hf
    rw [S_X6_settled_c9] at hf
    refine aw_iload_n 2 dX6_settled_9 rfl rfl ?_
    refine aw_aload_n 0 dX6_settled_10 rfl rfl ?_
    obtain ⟨q2, eq2, hf⟩ := Option.bind_eq_some_iff.mp hf
    refine aw_callV (rest := [.int x3]) (C_X6_cells hok hl eq2) (mg_o hok) rfl rfl nX6_cells q1735 q1737 qs54 q137 q1738 dX6_settled_11 rfl (by decide) (by decide) (Nat.le_of_ble_eq_true rfl) (Nat.le_refl _) (Nat.le_refl _) (aP1_i ?_) aP1_x
    refine aw_icmp_ge 49 dX6_settled_14 (by decide) (fun c3 => ?_) (fun c3 => ?_)
    · have hf := it_t c3 hf
      refine aw_lload_n 1 dX6_settled_49 rfl rfl ?_
      cases hf
      exact aw_lret rfl dX6_settled_50 aP1_rfl (Nat.le_refl _) (Nat.le_refl _)
    · have hf := it_f c3 hf
      refine aw_lload_n 1 dX6_settled_17 rfl rfl ?_
      refine aw_aload_n 0 dX6_settled_18 rfl rfl ?_
      refine aw_aload_n 0 dX6_settled_19 rfl rfl ?_
      refine aw_get (v := .ref (ad 0)) (mg_o hok) rfl in_X6 0 (by decide) q1739 (Or.inl rfl) rfl dX6_settled_20 ?_
      refine aw_bipush (v := 23) dX6_settled_23 (by decide) ?_
      refine aw_iload_n 2 dX6_settled_25 rfl rfl ?_
      refine aw_iadd dX6_settled_26 ?_
      obtain ⟨j4, z5, ej4, hf⟩ := ob_s hf
      refine aw_ialdj (mg_0 hok) z5 ej4 dX6_settled_27 ?_
      obtain ⟨q6, eq6, hf⟩ := Option.bind_eq_some_iff.mp hf
      refine aw_callV (rest := [.long x1]) (C_X6_isSettled hok hl eq6) (mg_o hok) rfl rfl nX6_isSettled q1994 q1996 qs76 q137 q1997 dX6_settled_28 rfl (by decide) (by decide) (Nat.le_of_ble_eq_true rfl) (Nat.le_refl _) (Nat.le_refl _) (aP1_i ?_) aP1_x
      refine aw_if_eq 40 dX6_settled_31 (by decide) (fun c7 => ?_) (fun c7 => ?_)
      · have hf := it_t c7 hf
        refine aw_lconst (v := 0) dX6_settled_40 (by decide) ?_
        refine aw_lor dX6_settled_41 ?_
        refine aw_topl (fun v8 ev8 => ?_)
        have hf := onm_a ev8 hf
        refine aw_lstore_n (lv' := [(1, .long v8), (0, .ref (ad 13)), (3, .int x3)]) dX6_settled_42 rfl (Nat.le_of_ble_eq_true rfl) rfl ?_
        refine aw_iinc 2 (v := x3 + 1) (lv' := [(3, .int (x3 + 1)), (1, .long v8), (0, .ref (ad 13))]) dX6_settled_43 rfl rfl (Nat.le_of_ble_eq_true rfl) rfl ?_
        refine aw_goto 9 dX6_settled_46 (by decide) ?_
        refine aw_sub [2, 1, 0] rfl ?_
        exact ih v8 (x3 + 1) st hf
      · have hf := it_f c7 hf
        refine aw_lconst (v := 1) dX6_settled_34 (by decide) ?_
        refine aw_iload_n 2 dX6_settled_35 rfl rfl ?_
        refine aw_lshl dX6_settled_36 ?_
        refine aw_goto 41 dX6_settled_37 (by decide) ?_
        refine aw_lor dX6_settled_41 ?_
        refine aw_topl (fun v9 ev9 => ?_)
        have hf := onm_a ev9 hf
        refine aw_lstore_n (lv' := [(1, .long v9), (0, .ref (ad 13)), (3, .int x3)]) dX6_settled_42 rfl (Nat.le_of_ble_eq_true rfl) rfl ?_
        refine aw_iinc 2 (v := x3 + 1) (lv' := [(3, .int (x3 + 1)), (1, .long v9), (0, .ref (ad 13))]) dX6_settled_43 rfl rfl (Nat.le_of_ble_eq_true rfl) rfl ?_
        refine aw_goto 9 dX6_settled_46 (by decide) ?_
        refine aw_sub [2, 1, 0] rfl ?_
        exact ih v9 (x3 + 1) st hf
def S_X6_settled (n : Nat) (st : MSt) : Option (Int64 × MSt) :=
  onm (mI st 2 0) fun u1 =>
  S_X6_settled_c9 n 0 0 u1
set_option maxHeartbeats 2000000 in
theorem C_X6_settled {l : Launch} {G : aG} {ad : Nat → Nat} {h0 : aH} (hok : mOk ad) (hl : l.stackTraces = false) {n : Nat} {st : MSt} {r : Int64 × MSt} (hf : S_X6_settled n st = some r) : aC l G mX6_settled (ws_ yX6_settled cX6_settled 4 (some .long)) 2 0 0 [.ref (ad 13)] (mh ad st h0) (aP1 (some (.long r.1)) (mh ad r.2 h0)) := by
  refine aC_of (M := mX6_settled) rfl (by decide) (Nat.le_of_ble_eq_true rfl) hl ?_
  rw [S_X6_settled] at hf
  refine aw_eqv (lv2 := [(0, .ref (ad 13))]) rfl rfl rfl rfl ?_
  refine aw_aload_n 0 dX6_settled_0 rfl rfl ?_
  refine aw_iconst (v := 0) dX6_settled_1 (by decide) ?_
  refine aw_put (mg_o hok) rfl in_X6 tyX6_ok nmX6 5 (by decide) q1744 (Or.inl rfl) rfl rfl rfl (Nat.le_of_ble_eq_true rfl) (mu_i2 hok) dX6_settled_2 ?_
  refine aw_st (fun u1 eu1 => ?_)
  have hf := onm_a eu1 hf
  refine aw_lconst (v := 0) dX6_settled_5 (by decide) ?_
  refine aw_lstore_n (lv' := [(1, .long 0), (0, .ref (ad 13))]) dX6_settled_6 rfl (Nat.le_of_ble_eq_true rfl) rfl ?_
  refine aw_iconst (v := 0) dX6_settled_7 (by decide) ?_
  refine aw_istore_n (lv' := [(3, .int 0), (1, .long 0), (0, .ref (ad 13))]) dX6_settled_8 rfl (Nat.le_of_ble_eq_true rfl) rfl ?_
  refine aw_sub [2, 1, 0] rfl ?_
  exact A_X6_settled_c9 hok hl n 0 0 u1 hf
abbrev mX6_loads : aM := (yX6_loads, cX6_loads, 3, none, [])
theorem nX6_loads : aNoMH yX6_loads 1 := by decide +kernel
def S_X6_loads_c2 : Nat → Int32 → Int32 → MSt → Option (MSt)
  | 0, _, _, _ => none
  | n + 1, x1, x2, st =>
    if 25 ≤ x2 then
      some st
    else
      ob ((23 : Int32) + x2) 432 fun j2 =>
      ob (x1 + x2) 750 fun j4 =>
      onm (mA st 5 j4 (st.2.1 0 j2)) fun u6 =>
      S_X6_loads_c2 n x1 (x2 + 1) u6
set_option maxHeartbeats 2000000 in
theorem A_X6_loads_c2 {l : Launch} {G : aG} {ad : Nat → Nat} {h0 : aH} (hok : mOk ad) (hl : l.stackTraces = false) {r : MSt} : ∀ (n : Nat) (x1 : Int32) (x2 : Int32) (st : MSt), S_X6_loads_c2 n x1 x2 st = some r → AW l G mX6_loads 0 0 0 (aP1 none (mh ad r h0)) 2 [(0, .ref (ad 13)), (1, .int x1), (2, .int x2)] [] (mh ad st h0) 0 0 := by
  intro n
  induction n with
  | zero =>
    intro x1 x2 st hf
    rw [S_X6_loads_c2] at hf
    cases hf
  | succ n ih =>
    intro x1 x2 st hf
    rw [S_X6_loads_c2] at hf
    refine aw_iload_n 2 dX6_loads_2 rfl rfl ?_
    refine aw_bipush (v := 25) dX6_loads_3 (by decide) ?_
    refine aw_icmp_ge 31 dX6_loads_5 (by decide) (fun c1 => ?_) (fun c1 => ?_)
    · have hf := it_t c1 hf
      cases hf
      exact aw_vret rfl dX6_loads_31 aP1_rfl (Nat.le_refl _) (Nat.le_refl _)
    · have hf := it_f c1 hf
      refine aw_aload_n 0 dX6_loads_8 rfl rfl ?_
      refine aw_get (v := .ref (ad 5)) (mg_o hok) rfl in_X6 15 (by decide) q1754 (Or.inl rfl) rfl dX6_loads_9 ?_
      refine aw_iload_n 1 dX6_loads_12 rfl rfl ?_
      refine aw_iload_n 2 dX6_loads_13 rfl rfl ?_
      refine aw_iadd dX6_loads_14 ?_
      refine aw_aload_n 0 dX6_loads_15 rfl rfl ?_
      refine aw_get (v := .ref (ad 0)) (mg_o hok) rfl in_X6 0 (by decide) q1739 (Or.inl rfl) rfl dX6_loads_16 ?_
      refine aw_bipush (v := 23) dX6_loads_19 (by decide) ?_
      refine aw_iload_n 2 dX6_loads_21 rfl rfl ?_
      refine aw_iadd dX6_loads_22 ?_
      obtain ⟨j2, z3, ej2, hf⟩ := ob_s hf
      refine aw_ialdj (mg_0 hok) z3 ej2 dX6_loads_23 ?_
      obtain ⟨j4, z5, ej4, hf⟩ := ob_s hf
      refine aw_iastj (mg_5 hok) z5 ej4 (mu_5 hok) dX6_loads_24 ?_
      refine aw_st (fun u6 eu6 => ?_)
      have hf := onm_a eu6 hf
      refine aw_iinc 2 (v := x2 + 1) (lv' := [(2, .int (x2 + 1)), (0, .ref (ad 13)), (1, .int x1)]) dX6_loads_25 rfl rfl (Nat.le_of_ble_eq_true rfl) rfl ?_
      refine aw_goto 2 dX6_loads_28 (by decide) ?_
      refine aw_sub [1, 2, 0] rfl ?_
      exact ih x1 (x2 + 1) u6 hf
def S_X6_loads (n : Nat) (x1 : Int32) (st : MSt) : Option (MSt) :=
  S_X6_loads_c2 n x1 0 st
set_option maxHeartbeats 2000000 in
theorem C_X6_loads {l : Launch} {G : aG} {ad : Nat → Nat} {h0 : aH} (hok : mOk ad) (hl : l.stackTraces = false) {n : Nat} {x1 : Int32} {st : MSt} {r : MSt} (hf : S_X6_loads n x1 st = some r) : aC l G mX6_loads (ws_ yX6_loads cX6_loads 3 none) 0 0 0 [.ref (ad 13), .int x1] (mh ad st h0) (aP1 none (mh ad r h0)) := by
  refine aC_of (M := mX6_loads) rfl (by decide) (Nat.le_of_ble_eq_true rfl) hl ?_
  rw [S_X6_loads] at hf
  refine aw_eqv (lv2 := [(0, .ref (ad 13)), (1, .int x1)]) rfl rfl rfl rfl ?_
  refine aw_iconst (v := 0) dX6_loads_0 (by decide) ?_
  refine aw_istore_n (lv' := [(2, .int 0), (0, .ref (ad 13)), (1, .int x1)]) dX6_loads_1 rfl (Nat.le_of_ble_eq_true rfl) rfl ?_
  refine aw_sub [1, 2, 0] rfl ?_
  exact A_X6_loads_c2 hok hl n x1 0 st hf
abbrev mX6_tellingOf : aM := (yX6_tellingOf, cX6_tellingOf, 5, some .int, [])
theorem nX6_tellingOf : aNoMH yX6_tellingOf 2 := by decide +kernel
def S_X6_tellingOf_j39 (st : MSt) (x1 : Int32) (x3 : Int32) (xs0 : Int32) : Option (Int32) :=
  onm ((xs0 + x1) - x3) fun v4 =>
  if ((2 : Int32) * x3) ≤ x1 then
    some 0
  else
    ob ((3 : Int32) + v4) 432 fun j6 =>
    some (st.2.1 0 j6)
set_option maxHeartbeats 2000000 in
theorem A_X6_tellingOf_j39 {l : Launch} {G : aG} {ad : Nat → Nat} {h0 : aH} (hok : mOk ad) (hl : l.stackTraces = false) {r : Int32} {st : MSt} : ∀ (x1 : Int32) (x3 : Int32) (xs0 : Int32), S_X6_tellingOf_j39 st x1 x3 xs0 = some r → AW l G mX6_tellingOf 0 0 0 (aP1 (some (.int r)) (mh ad st h0)) 39 [(0, .ref (ad 13)), (1, .int x1), (3, .int x3)] [.int xs0] (mh ad st h0) 0 0 := by
  intro x1 x3 xs0 hf
  rw [S_X6_tellingOf_j39] at hf
  refine aw_iload_n 1 dX6_tellingOf_39 rfl rfl ?_
  refine aw_iadd dX6_tellingOf_40 ?_
  refine aw_iload_n 2 dX6_tellingOf_41 rfl rfl ?_
  refine aw_isub dX6_tellingOf_42 ?_
  refine aw_topi (fun v4 ev4 => ?_)
  have hf := onm_a ev4 hf
  refine aw_istore (lv' := [(4, .int v4), (0, .ref (ad 13)), (1, .int x1), (3, .int x3)]) dX6_tellingOf_43 (Nat.le_of_ble_eq_true rfl) rfl ?_
  refine aw_iload_n 2 dX6_tellingOf_45 rfl rfl ?_
  refine aw_iconst (v := 2) dX6_tellingOf_46 (by decide) ?_
  refine aw_iload_n 3 dX6_tellingOf_47 rfl rfl ?_
  refine aw_imul dX6_tellingOf_48 ?_
  refine aw_icmp_ge 64 dX6_tellingOf_49 (by decide) (fun c5 => ?_) (fun c5 => ?_)
  · have hf := it_t c5 hf
    refine aw_iconst (v := 0) dX6_tellingOf_64 (by decide) ?_
    cases hf
    exact aw_iret rfl dX6_tellingOf_65 aP1_rfl (Nat.le_refl _) (Nat.le_refl _)
  · have hf := it_f c5 hf
    refine aw_aload_n 1 dX6_tellingOf_52 rfl rfl ?_
    refine aw_get (v := .ref (ad 0)) (mg_o hok) rfl in_X6 0 (by decide) q1739 (Or.inl rfl) rfl dX6_tellingOf_53 ?_
    refine aw_iconst (v := 3) dX6_tellingOf_56 (by decide) ?_
    refine aw_iload 0 dX6_tellingOf_57 rfl ?_
    refine aw_iadd dX6_tellingOf_59 ?_
    obtain ⟨j6, z7, ej6, hf⟩ := ob_s hf
    refine aw_ialdj (mg_0 hok) z7 ej6 dX6_tellingOf_60 ?_
    refine aw_goto 65 dX6_tellingOf_61 (by decide) ?_
    cases hf
    exact aw_iret rfl dX6_tellingOf_65 aP1_rfl (Nat.le_refl _) (Nat.le_refl _)
def S_X6_tellingOf_j23 (st : MSt) (x1 : Int32) (x3 : Int32) (xs0 : Int32) : Option (Int32) :=
  onm (xs0 + x1) fun v9 =>
  if ((2 : Int32) * x3) ≤ x1 then
    some 0
  else
    ob ((3 : Int32) + v9) 432 fun j11 =>
    some (st.2.1 0 j11)
set_option maxHeartbeats 2000000 in
theorem A_X6_tellingOf_j23 {l : Launch} {G : aG} {ad : Nat → Nat} {h0 : aH} (hok : mOk ad) (hl : l.stackTraces = false) {r : Int32} {st : MSt} : ∀ (x1 : Int32) (x3 : Int32) (xs0 : Int32), S_X6_tellingOf_j23 st x1 x3 xs0 = some r → AW l G mX6_tellingOf 0 0 0 (aP1 (some (.int r)) (mh ad st h0)) 23 [(0, .ref (ad 13)), (1, .int x1), (3, .int x3)] [.int xs0] (mh ad st h0) 0 0 := by
  intro x1 x3 xs0 hf
  rw [S_X6_tellingOf_j23] at hf
  refine aw_iload_n 1 dX6_tellingOf_23 rfl rfl ?_
  refine aw_iadd dX6_tellingOf_24 ?_
  refine aw_goto 43 dX6_tellingOf_25 (by decide) ?_
  refine aw_topi (fun v9 ev9 => ?_)
  have hf := onm_a ev9 hf
  refine aw_istore (lv' := [(4, .int v9), (0, .ref (ad 13)), (1, .int x1), (3, .int x3)]) dX6_tellingOf_43 (Nat.le_of_ble_eq_true rfl) rfl ?_
  refine aw_iload_n 2 dX6_tellingOf_45 rfl rfl ?_
  refine aw_iconst (v := 2) dX6_tellingOf_46 (by decide) ?_
  refine aw_iload_n 3 dX6_tellingOf_47 rfl rfl ?_
  refine aw_imul dX6_tellingOf_48 ?_
  refine aw_icmp_ge 64 dX6_tellingOf_49 (by decide) (fun c10 => ?_) (fun c10 => ?_)
  · have hf := it_t c10 hf
    refine aw_iconst (v := 0) dX6_tellingOf_64 (by decide) ?_
    cases hf
    exact aw_iret rfl dX6_tellingOf_65 aP1_rfl (Nat.le_refl _) (Nat.le_refl _)
  · have hf := it_f c10 hf
    refine aw_aload_n 1 dX6_tellingOf_52 rfl rfl ?_
    refine aw_get (v := .ref (ad 0)) (mg_o hok) rfl in_X6 0 (by decide) q1739 (Or.inl rfl) rfl dX6_tellingOf_53 ?_
    refine aw_iconst (v := 3) dX6_tellingOf_56 (by decide) ?_
    refine aw_iload 0 dX6_tellingOf_57 rfl ?_
    refine aw_iadd dX6_tellingOf_59 ?_
    obtain ⟨j11, z12, ej11, hf⟩ := ob_s hf
    refine aw_ialdj (mg_0 hok) z12 ej11 dX6_tellingOf_60 ?_
    refine aw_goto 65 dX6_tellingOf_61 (by decide) ?_
    cases hf
    exact aw_iret rfl dX6_tellingOf_65 aP1_rfl (Nat.le_refl _) (Nat.le_refl _)
def S_X6_tellingOf (x1 : Int32) (x2 : Int32) (st : MSt) : Option (Int32) :=
  onm (st.2.1 0 0) fun v1 =>
  if v1 ≤ x1 then
    if x2 = 0 then
      S_X6_tellingOf_j39 st x1 v1 0
    else
      S_X6_tellingOf_j39 st x1 v1 ((2 : Int32) * v1)
  else
    if x2 = 0 then
      S_X6_tellingOf_j23 st x1 v1 ((3 : Int32) * v1)
    else
      S_X6_tellingOf_j23 st x1 v1 v1
set_option maxHeartbeats 2000000 in
theorem C_X6_tellingOf {l : Launch} {G : aG} {ad : Nat → Nat} {h0 : aH} (hok : mOk ad) (hl : l.stackTraces = false) {x1 : Int32} {x2 : Int32} {st : MSt} {r : Int32} (hf : S_X6_tellingOf x1 x2 st = some r) : aC l G mX6_tellingOf (ws_ yX6_tellingOf cX6_tellingOf 5 (some .int)) 0 0 0 [.ref (ad 13), .int x1, .int x2] (mh ad st h0) (aP1 (some (.int r)) (mh ad st h0)) := by
  refine aC_of (M := mX6_tellingOf) rfl (by decide) (Nat.le_of_ble_eq_true rfl) hl ?_
  rw [S_X6_tellingOf] at hf
  refine aw_eqv (lv2 := [(0, .ref (ad 13)), (1, .int x1), (2, .int x2)]) rfl rfl rfl rfl ?_
  refine aw_aload_n 0 dX6_tellingOf_0 rfl rfl ?_
  refine aw_get (v := .ref (ad 0)) (mg_o hok) rfl in_X6 0 (by decide) q1739 (Or.inl rfl) rfl dX6_tellingOf_1 ?_
  refine aw_iconst (v := 0) dX6_tellingOf_4 (by decide) ?_
  refine aw_ialdj (j := 0) (mg_0 hok) (vpc (by decide)) (by decide) dX6_tellingOf_5 ?_
  refine aw_topi (fun v1 ev1 => ?_)
  have hf := onm_a ev1 hf
  refine aw_istore_n (lv' := [(3, .int v1), (0, .ref (ad 13)), (1, .int x1), (2, .int x2)]) dX6_tellingOf_6 rfl (Nat.le_of_ble_eq_true rfl) rfl ?_
  refine aw_iload_n 2 dX6_tellingOf_7 rfl rfl ?_
  refine aw_iload_n 0 dX6_tellingOf_8 rfl rfl ?_
  refine aw_icmp_ge 28 dX6_tellingOf_9 (by decide) (fun c2 => ?_) (fun c2 => ?_)
  · have hf := it_t c2 hf
    refine aw_iload_n 3 dX6_tellingOf_28 rfl rfl ?_
    refine aw_if_eq 38 dX6_tellingOf_29 (by decide) (fun c3 => ?_) (fun c3 => ?_)
    · have hf := it_t c3 hf
      refine aw_iconst (v := 0) dX6_tellingOf_38 (by decide) ?_
      refine aw_sub [1, 2, 0] rfl ?_
      exact A_X6_tellingOf_j39 hok hl x1 v1 0 hf
    · have hf := it_f c3 hf
      refine aw_iconst (v := 2) dX6_tellingOf_32 (by decide) ?_
      refine aw_iload_n 0 dX6_tellingOf_33 rfl rfl ?_
      refine aw_imul dX6_tellingOf_34 ?_
      refine aw_goto 39 dX6_tellingOf_35 (by decide) ?_
      refine aw_sub [1, 2, 0] rfl ?_
      exact A_X6_tellingOf_j39 hok hl x1 v1 ((2 : Int32) * v1) hf
  · have hf := it_f c2 hf
    refine aw_iload_n 3 dX6_tellingOf_12 rfl rfl ?_
    refine aw_if_eq 20 dX6_tellingOf_13 (by decide) (fun c8 => ?_) (fun c8 => ?_)
    · have hf := it_t c8 hf
      refine aw_iconst (v := 3) dX6_tellingOf_20 (by decide) ?_
      refine aw_iload_n 0 dX6_tellingOf_21 rfl rfl ?_
      refine aw_imul dX6_tellingOf_22 ?_
      refine aw_sub [1, 2, 0] rfl ?_
      exact A_X6_tellingOf_j23 hok hl x1 v1 ((3 : Int32) * v1) hf
    · have hf := it_f c8 hf
      refine aw_iload_n 0 dX6_tellingOf_16 rfl rfl ?_
      refine aw_goto 23 dX6_tellingOf_17 (by decide) ?_
      refine aw_sub [1, 2, 0] rfl ?_
      exact A_X6_tellingOf_j23 hok hl x1 v1 v1 hf
abbrev mX6_isTrue : aM := (yX6_isTrue, cX6_isTrue, 3, some .boolean, [])
theorem nX6_isTrue : aNoMH yX6_isTrue 3 := by decide +kernel
def S_X6_isTrue (x0 : Int32) (x1 : Int32) (x2 : Int32) : Option (Int32) :=
  if x0 = 0 then
    some 1
  else
    if (x0 - x0 / 2 * 2) = 1 then
      if ((x0 - (1 : Int32)) / 2) = x1 then
        some 1
      else
        some 0
    else
      if ((x0 - (1 : Int32)) / 2) = x2 then
        some 1
      else
        some 0
set_option maxHeartbeats 2000000 in
theorem C_X6_isTrue {l : Launch} {G : aG} {h : aH} (hl : l.stackTraces = false) {x0 : Int32} {x1 : Int32} {x2 : Int32} {r : Int32} (hf : S_X6_isTrue x0 x1 x2 = some r) : aC l G mX6_isTrue (ws_ yX6_isTrue cX6_isTrue 3 (some .boolean)) 0 0 0 [.int x0, .int x1, .int x2] h (aP1 (some (.int r)) h) := by
  refine aC_of (M := mX6_isTrue) rfl (by decide) (Nat.le_of_ble_eq_true rfl) hl ?_
  rw [S_X6_isTrue] at hf
  refine aw_eqv (lv2 := [(0, .int x0), (1, .int x1), (2, .int x2)]) rfl rfl rfl rfl ?_
  refine aw_iload_n 0 dX6_isTrue_0 rfl rfl ?_
  refine aw_if_eq 24 dX6_isTrue_1 (by decide) (fun c1 => ?_) (fun c1 => ?_)
  · have hf := it_t c1 hf
    refine aw_iconst (v := 1) dX6_isTrue_24 (by decide) ?_
    refine aw_goto 29 dX6_isTrue_25 (by decide) ?_
    cases hf
    exact aw_zret rfl rfl dX6_isTrue_29 aP1_rfl (Nat.le_refl _) (Nat.le_refl _)
  · have hf := it_f c1 hf
    refine aw_iload_n 0 dX6_isTrue_4 rfl rfl ?_
    refine aw_iconst (v := 1) dX6_isTrue_5 (by decide) ?_
    refine aw_isub dX6_isTrue_6 ?_
    refine aw_iconst (v := 2) dX6_isTrue_7 (by decide) ?_
    refine aw_idiv dX6_isTrue_8 (by decide) ?_
    refine aw_iload_n 0 dX6_isTrue_9 rfl rfl ?_
    refine aw_iconst (v := 2) dX6_isTrue_10 (by decide) ?_
    refine aw_irem dX6_isTrue_11 (by decide) ?_
    refine aw_iconst (v := 1) dX6_isTrue_12 (by decide) ?_
    refine aw_icmp_ne 20 dX6_isTrue_13 (by decide) (fun c2 => ?_) (fun c2 => ?_)
    · have hf := it_f c2 hf
      refine aw_iload_n 2 dX6_isTrue_20 rfl rfl ?_
      refine aw_icmp_ne 28 dX6_isTrue_21 (by decide) (fun c3 => ?_) (fun c3 => ?_)
      · have hf := it_f c3 hf
        refine aw_iconst (v := 0) dX6_isTrue_28 (by decide) ?_
        cases hf
        exact aw_zret rfl rfl dX6_isTrue_29 aP1_rfl (Nat.le_refl _) (Nat.le_refl _)
      · have hf := it_t c3 hf
        refine aw_iconst (v := 1) dX6_isTrue_24 (by decide) ?_
        refine aw_goto 29 dX6_isTrue_25 (by decide) ?_
        cases hf
        exact aw_zret rfl rfl dX6_isTrue_29 aP1_rfl (Nat.le_refl _) (Nat.le_refl _)
    · have hf := it_t c2 hf
      refine aw_iload_n 1 dX6_isTrue_16 rfl rfl ?_
      refine aw_goto 21 dX6_isTrue_17 (by decide) ?_
      refine aw_icmp_ne 28 dX6_isTrue_21 (by decide) (fun c4 => ?_) (fun c4 => ?_)
      · have hf := it_f c4 hf
        refine aw_iconst (v := 0) dX6_isTrue_28 (by decide) ?_
        cases hf
        exact aw_zret rfl rfl dX6_isTrue_29 aP1_rfl (Nat.le_refl _) (Nat.le_refl _)
      · have hf := it_t c4 hf
        refine aw_iconst (v := 1) dX6_isTrue_24 (by decide) ?_
        refine aw_goto 29 dX6_isTrue_25 (by decide) ?_
        cases hf
        exact aw_zret rfl rfl dX6_isTrue_29 aP1_rfl (Nat.le_refl _) (Nat.le_refl _)
abbrev mX6_fits : aM := (yX6_fits, cX6_fits, 5, some .boolean, [])
theorem nX6_fits : aNoMH yX6_fits 3 := by decide +kernel
def S_X6_fits_c3 (K53 : Int32 → Int32 → Option (Int32)) (st : MSt) : Nat → Int32 → Int32 → Int32 → Int32 → Option (Int32)
  | 0, _, _, _, _ => none
  | n + 1, x1, x2, x3, x4 =>
    if (st.2.1 0 0) ≤ x4 then
      K53 x2 x3
    else
      (S_X6_cellAt x2 x4 st).bind fun q2 =>
      ob (x1 + q2) 750 fun j3 =>
      ob (((5 : Int32) * x3) + x4) 605 fun j5 =>
      (S_X6_has (st.2.1 5 j3) (st.2.1 3 j5)).bind fun q7 =>
      if q7 = 0 then
        some 0
      else
        S_X6_fits_c3 K53 st n x1 x2 x3 (x4 + 1)
set_option maxHeartbeats 2000000 in
theorem A_X6_fits_c3 {l : Launch} {G : aG} {ad : Nat → Nat} {h0 : aH} (hok : mOk ad) (hl : l.stackTraces = false) {r : Int32} {st : MSt} {K53 : Int32 → Int32 → Option (Int32)} (hK53 : ∀ (w2 : Int32) (w3 : Int32), K53 w2 w3 = some r → AW l G mX6_fits 1 0 0 (aP1 (some (.int r)) (mh ad st h0)) 53 [(0, .ref (ad 13)), (2, .int w2), (3, .int w3)] [] (mh ad st h0) 0 0) : ∀ (n : Nat) (x1 : Int32) (x2 : Int32) (x3 : Int32) (x4 : Int32), S_X6_fits_c3 K53 st n x1 x2 x3 x4 = some r → AW l G mX6_fits 1 0 0 (aP1 (some (.int r)) (mh ad st h0)) 3 [(0, .ref (ad 13)), (1, .int x1), (2, .int x2), (3, .int x3), (4, .int x4)] [] (mh ad st h0) 0 0 := by
  intro n
  induction n with
  | zero =>
    intro x1 x2 x3 x4 hf
    rw [S_X6_fits_c3] at hf
    cases hf
  | succ n ih =>
    intro x1 x2 x3 x4 hf
    rw [S_X6_fits_c3] at hf
    refine aw_iload 4 dX6_fits_3 rfl ?_
    refine aw_aload_n 0 dX6_fits_5 rfl rfl ?_
    refine aw_get (v := .ref (ad 0)) (mg_o hok) rfl in_X6 0 (by decide) q1739 (Or.inl rfl) rfl dX6_fits_6 ?_
    refine aw_iconst (v := 0) dX6_fits_9 (by decide) ?_
    refine aw_ialdj (j := 0) (mg_0 hok) (vpc (by decide)) (by decide) dX6_fits_10 ?_
    refine aw_icmp_ge 53 dX6_fits_11 (by decide) (fun c1 => ?_) (fun c1 => ?_)
    · have hf := it_t c1 hf
      refine aw_sub [0, 2, 3] rfl ?_
      exact hK53 x2 x3 hf
    · have hf := it_f c1 hf
      refine aw_aload_n 0 dX6_fits_14 rfl rfl ?_
      refine aw_get (v := .ref (ad 5)) (mg_o hok) rfl in_X6 15 (by decide) q1754 (Or.inl rfl) rfl dX6_fits_15 ?_
      refine aw_iload_n 1 dX6_fits_18 rfl rfl ?_
      refine aw_aload_n 0 dX6_fits_19 rfl rfl ?_
      refine aw_iload_n 2 dX6_fits_20 rfl rfl ?_
      refine aw_iload 4 dX6_fits_21 rfl ?_
      obtain ⟨q2, eq2, hf⟩ := Option.bind_eq_some_iff.mp hf
      refine aw_callV (rest := [.int x1, .ref (ad 5)]) (C_X6_cellAt hok hl eq2) (mg_o hok) rfl rfl nX6_cellAt q1892 q1894 qs67 q137 q1895 dX6_fits_23 rfl (by decide) (by decide) (Nat.le_of_ble_eq_true rfl) (Nat.le_refl _) (Nat.le_refl _) (aP1_i ?_) aP1_x
      refine aw_iadd dX6_fits_26 ?_
      obtain ⟨j3, z4, ej3, hf⟩ := ob_s hf
      refine aw_ialdj (mg_5 hok) z4 ej3 dX6_fits_27 ?_
      refine aw_aload_n 0 dX6_fits_28 rfl rfl ?_
      refine aw_get (v := .ref (ad 3)) (mg_o hok) rfl in_X6 13 (by decide) q1752 (Or.inl rfl) rfl dX6_fits_29 ?_
      refine aw_iconst (v := 5) dX6_fits_32 (by decide) ?_
      refine aw_iload_n 3 dX6_fits_33 rfl rfl ?_
      refine aw_imul dX6_fits_34 ?_
      refine aw_iload 4 dX6_fits_35 rfl ?_
      refine aw_iadd dX6_fits_37 ?_
      obtain ⟨j5, z6, ej5, hf⟩ := ob_s hf
      refine aw_ialdj (mg_3 hok) z6 ej5 dX6_fits_38 ?_
      obtain ⟨q7, eq7, hf⟩ := Option.bind_eq_some_iff.mp hf
      refine aw_callS (rest := []) (C_X6_has hl eq7) nX6_has q1903 q1904 q137 q1905 dX6_fits_39 rfl (by decide) (by decide) (Nat.le_of_ble_eq_true rfl) (Nat.le_refl _) (Nat.le_refl _) (aP1_i ?_) aP1_x
      refine aw_if_ne 47 dX6_fits_42 (by decide) (fun c8 => ?_) (fun c8 => ?_)
      · have hf := it_f c8 hf
        refine aw_iinc 4 (v := x4 + 1) (lv' := [(4, .int (x4 + 1)), (0, .ref (ad 13)), (1, .int x1), (2, .int x2), (3, .int x3)]) dX6_fits_47 rfl rfl (Nat.le_of_ble_eq_true rfl) rfl ?_
        refine aw_goto 3 dX6_fits_50 (by decide) ?_
        refine aw_sub [1, 2, 3, 4, 0] rfl ?_
        exact ih x1 x2 x3 (x4 + 1) hf
      · have hf := it_t c8 hf
        refine aw_iconst (v := 0) dX6_fits_45 (by decide) ?_
        cases hf
        exact aw_zret rfl rfl dX6_fits_46 aP1_rfl (Nat.le_refl _) (Nat.le_refl _)
def S_X6_fits (n : Nat) (x1 : Int32) (x2 : Int32) (x3 : Int32) (st : MSt) : Option (Int32) :=
  S_X6_fits_c3
    (fun y9_2 y9_3 => 
        (S_X6_tellingOf y9_2 0 st).bind fun q11 =>
        ob ((4 : Int32) * y9_3) 480 fun j12 =>
        ob (((4 : Int32) * y9_3) + (1 : Int32)) 480 fun j14 =>
        (S_X6_isTrue q11 (st.2.1 4 j12) (st.2.1 4 j14)).bind fun q16 =>
        if q16 = 0 then
          some 0
        else
          (S_X6_tellingOf y9_2 1 st).bind fun q18 =>
          ob (((4 : Int32) * y9_3) + (2 : Int32)) 480 fun j19 =>
          ob (((4 : Int32) * y9_3) + (3 : Int32)) 480 fun j21 =>
          (S_X6_isTrue q18 (st.2.1 4 j19) (st.2.1 4 j21)).bind fun q23 =>
          if q23 = 0 then
            some 0
          else
            some 1)
     st n x1 x2 x3 0
set_option maxHeartbeats 2000000 in
theorem C_X6_fits {l : Launch} {G : aG} {ad : Nat → Nat} {h0 : aH} (hok : mOk ad) (hl : l.stackTraces = false) {n : Nat} {x1 : Int32} {x2 : Int32} {x3 : Int32} {st : MSt} {r : Int32} (hf : S_X6_fits n x1 x2 x3 st = some r) : aC l G mX6_fits (ws_ yX6_fits cX6_fits 5 (some .boolean)) 1 0 0 [.ref (ad 13), .int x1, .int x2, .int x3] (mh ad st h0) (aP1 (some (.int r)) (mh ad st h0)) := by
  refine aC_of (M := mX6_fits) rfl (by decide) (Nat.le_of_ble_eq_true rfl) hl ?_
  rw [S_X6_fits] at hf
  refine aw_eqv (lv2 := [(0, .ref (ad 13)), (1, .int x1), (2, .int x2), (3, .int x3)]) rfl rfl rfl rfl ?_
  refine aw_iconst (v := 0) dX6_fits_0 (by decide) ?_
  refine aw_istore (lv' := [(4, .int 0), (0, .ref (ad 13)), (1, .int x1), (2, .int x2), (3, .int x3)]) dX6_fits_1 (Nat.le_of_ble_eq_true rfl) rfl ?_
  refine aw_sub [1, 2, 3, 4, 0] rfl ?_
  refine A_X6_fits_c3 hok hl ?_ n x1 x2 x3 0 hf
  · intro y9_2 y9_3 hf
    refine aw_aload_n 0 dX6_fits_53 rfl rfl ?_
    refine aw_iload_n 1 dX6_fits_54 rfl rfl ?_
    refine aw_iconst (v := 0) dX6_fits_55 (by decide) ?_
    obtain ⟨q11, eq11, hf⟩ := Option.bind_eq_some_iff.mp hf
    refine aw_callV (rest := []) (C_X6_tellingOf hok hl eq11) (mg_o hok) rfl rfl nX6_tellingOf q2025 q2027 qs82 q137 q2028 dX6_fits_56 rfl (by decide) (by decide) (Nat.le_of_ble_eq_true rfl) (Nat.le_refl _) (Nat.le_refl _) (aP1_i ?_) aP1_x
    refine aw_aload_n 0 dX6_fits_59 rfl rfl ?_
    refine aw_get (v := .ref (ad 4)) (mg_o hok) rfl in_X6 14 (by decide) q1753 (Or.inl rfl) rfl dX6_fits_60 ?_
    refine aw_iconst (v := 4) dX6_fits_63 (by decide) ?_
    refine aw_iload_n 2 dX6_fits_64 rfl rfl ?_
    refine aw_imul dX6_fits_65 ?_
    obtain ⟨j12, z13, ej12, hf⟩ := ob_s hf
    refine aw_ialdj (mg_4 hok) z13 ej12 dX6_fits_66 ?_
    refine aw_aload_n 0 dX6_fits_67 rfl rfl ?_
    refine aw_get (v := .ref (ad 4)) (mg_o hok) rfl in_X6 14 (by decide) q1753 (Or.inl rfl) rfl dX6_fits_68 ?_
    refine aw_iconst (v := 4) dX6_fits_71 (by decide) ?_
    refine aw_iload_n 2 dX6_fits_72 rfl rfl ?_
    refine aw_imul dX6_fits_73 ?_
    refine aw_iconst (v := 1) dX6_fits_74 (by decide) ?_
    refine aw_iadd dX6_fits_75 ?_
    obtain ⟨j14, z15, ej14, hf⟩ := ob_s hf
    refine aw_ialdj (mg_4 hok) z15 ej14 dX6_fits_76 ?_
    obtain ⟨q16, eq16, hf⟩ := Option.bind_eq_some_iff.mp hf
    refine aw_callS (rest := []) (C_X6_isTrue hl eq16) nX6_isTrue q2029 q2030 q137 q2031 dX6_fits_77 rfl (by decide) (by decide) (Nat.le_of_ble_eq_true rfl) (Nat.le_refl _) (Nat.le_refl _) (aP1_i ?_) aP1_x
    refine aw_if_eq 119 dX6_fits_80 (by decide) (fun c17 => ?_) (fun c17 => ?_)
    · have hf := it_t c17 hf
      refine aw_iconst (v := 0) dX6_fits_119 (by decide) ?_
      cases hf
      exact aw_zret rfl rfl dX6_fits_120 aP1_rfl (Nat.le_refl _) (Nat.le_refl _)
    · have hf := it_f c17 hf
      refine aw_aload_n 0 dX6_fits_83 rfl rfl ?_
      refine aw_iload_n 1 dX6_fits_84 rfl rfl ?_
      refine aw_iconst (v := 1) dX6_fits_85 (by decide) ?_
      obtain ⟨q18, eq18, hf⟩ := Option.bind_eq_some_iff.mp hf
      refine aw_callV (rest := []) (C_X6_tellingOf hok hl eq18) (mg_o hok) rfl rfl nX6_tellingOf q2025 q2027 qs82 q137 q2028 dX6_fits_86 rfl (by decide) (by decide) (Nat.le_of_ble_eq_true rfl) (Nat.le_refl _) (Nat.le_refl _) (aP1_i ?_) aP1_x
      refine aw_aload_n 0 dX6_fits_89 rfl rfl ?_
      refine aw_get (v := .ref (ad 4)) (mg_o hok) rfl in_X6 14 (by decide) q1753 (Or.inl rfl) rfl dX6_fits_90 ?_
      refine aw_iconst (v := 4) dX6_fits_93 (by decide) ?_
      refine aw_iload_n 2 dX6_fits_94 rfl rfl ?_
      refine aw_imul dX6_fits_95 ?_
      refine aw_iconst (v := 2) dX6_fits_96 (by decide) ?_
      refine aw_iadd dX6_fits_97 ?_
      obtain ⟨j19, z20, ej19, hf⟩ := ob_s hf
      refine aw_ialdj (mg_4 hok) z20 ej19 dX6_fits_98 ?_
      refine aw_aload_n 0 dX6_fits_99 rfl rfl ?_
      refine aw_get (v := .ref (ad 4)) (mg_o hok) rfl in_X6 14 (by decide) q1753 (Or.inl rfl) rfl dX6_fits_100 ?_
      refine aw_iconst (v := 4) dX6_fits_103 (by decide) ?_
      refine aw_iload_n 2 dX6_fits_104 rfl rfl ?_
      refine aw_imul dX6_fits_105 ?_
      refine aw_iconst (v := 3) dX6_fits_106 (by decide) ?_
      refine aw_iadd dX6_fits_107 ?_
      obtain ⟨j21, z22, ej21, hf⟩ := ob_s hf
      refine aw_ialdj (mg_4 hok) z22 ej21 dX6_fits_108 ?_
      obtain ⟨q23, eq23, hf⟩ := Option.bind_eq_some_iff.mp hf
      refine aw_callS (rest := []) (C_X6_isTrue hl eq23) nX6_isTrue q2029 q2030 q137 q2031 dX6_fits_109 rfl (by decide) (by decide) (Nat.le_of_ble_eq_true rfl) (Nat.le_refl _) (Nat.le_refl _) (aP1_i ?_) aP1_x
      refine aw_if_eq 119 dX6_fits_112 (by decide) (fun c24 => ?_) (fun c24 => ?_)
      · have hf := it_t c24 hf
        refine aw_iconst (v := 0) dX6_fits_119 (by decide) ?_
        cases hf
        exact aw_zret rfl rfl dX6_fits_120 aP1_rfl (Nat.le_refl _) (Nat.le_refl _)
      · have hf := it_f c24 hf
        refine aw_iconst (v := 1) dX6_fits_115 (by decide) ?_
        refine aw_goto 120 dX6_fits_116 (by decide) ?_
        cases hf
        exact aw_zret rfl rfl dX6_fits_120 aP1_rfl (Nat.le_refl _) (Nat.le_refl _)
abbrev mX6_looks : aM := (yX6_looks, cX6_looks, 6, some .int, [])
theorem nX6_looks : aNoMH yX6_looks 2 := by decide +kernel
def S_X6_looks_c6 (K24 : Int32 → Int32 → MSt → Option (Int32 × MSt)) : Nat → Int32 → Int32 → Int32 → MSt → Option (Int32 × MSt)
  | 0, _, _, _, _ => none
  | n + 1, x1, x2, x3, st =>
    if 5 ≤ x3 then
      K24 x1 x2 st
    else
      ob x3 5 fun j3 =>
      onm (mA st 6 j3 0) fun u5 =>
      S_X6_looks_c6 K24 n x1 x2 (x3 + 1) u5
set_option maxHeartbeats 2000000 in
theorem A_X6_looks_c6 {l : Launch} {G : aG} {ad : Nat → Nat} {h0 : aH} (hok : mOk ad) (hl : l.stackTraces = false) {r : Int32 × MSt} {K24 : Int32 → Int32 → MSt → Option (Int32 × MSt)} (hK24 : ∀ (w1 : Int32) (w2 : Int32) (st : MSt), K24 w1 w2 st = some r → AW l G mX6_looks 3 0 0 (aP1 (some (.int r.1)) (mh ad r.2 h0)) 24 [(0, .ref (ad 13)), (1, .int w1), (2, .int w2)] [] (mh ad st h0) 0 0) : ∀ (n : Nat) (x1 : Int32) (x2 : Int32) (x3 : Int32) (st : MSt), S_X6_looks_c6 K24 n x1 x2 x3 st = some r → AW l G mX6_looks 3 0 0 (aP1 (some (.int r.1)) (mh ad r.2 h0)) 6 [(0, .ref (ad 13)), (1, .int x1), (2, .int x2), (3, .int x3)] [] (mh ad st h0) 0 0 := by
  intro n
  induction n with
  | zero =>
    intro x1 x2 x3 st hf
    rw [S_X6_looks_c6] at hf
    cases hf
  | succ n ih =>
    intro x1 x2 x3 st hf
    rw [S_X6_looks_c6] at hf
    refine aw_iload_n 3 dX6_looks_6 rfl rfl ?_
    refine aw_iconst (v := 5) dX6_looks_7 (by decide) ?_
    refine aw_icmp_ge 24 dX6_looks_8 (by decide) (fun c2 => ?_) (fun c2 => ?_)
    · have hf := it_t c2 hf
      refine aw_sub [0, 1, 2] rfl ?_
      exact hK24 x1 x2 st hf
    · have hf := it_f c2 hf
      refine aw_aload_n 0 dX6_looks_11 rfl rfl ?_
      refine aw_get (v := .ref (ad 6)) (mg_o hok) rfl in_X6 16 (by decide) q1755 (Or.inl rfl) rfl dX6_looks_12 ?_
      refine aw_iload_n 3 dX6_looks_15 rfl rfl ?_
      refine aw_iconst (v := 0) dX6_looks_16 (by decide) ?_
      obtain ⟨j3, z4, ej3, hf⟩ := ob_s hf
      refine aw_iastj (mg_6 hok) z4 ej3 (mu_6 hok) dX6_looks_17 ?_
      refine aw_st (fun u5 eu5 => ?_)
      have hf := onm_a eu5 hf
      refine aw_iinc 3 (v := x3 + 1) (lv' := [(3, .int (x3 + 1)), (0, .ref (ad 13)), (1, .int x1), (2, .int x2)]) dX6_looks_18 rfl rfl (Nat.le_of_ble_eq_true rfl) rfl ?_
      refine aw_goto 6 dX6_looks_21 (by decide) ?_
      refine aw_sub [1, 2, 3, 0] rfl ?_
      exact ih x1 x2 (x3 + 1) u5 hf
def S_X6_looks_c55 (K96 : Int32 → Int32 → Int32 → Int32 → MSt → Option (Int32 × MSt)) : Nat → Int32 → Int32 → Int32 → Int32 → Int32 → MSt → Option (Int32 × MSt)
  | 0, _, _, _, _, _, _ => none
  | n + 1, x1, x2, x3, x4, x5, st =>
    if (st.2.1 0 0) ≤ x5 then
      K96 x1 x2 x3 x4 st
    else
      ob x5 5 fun j12 =>
      ob (((5 : Int32) * x4) + x5) 605 fun j14 =>
      ob x5 5 fun j16 =>
      onm (mA st 6 j16 ((st.2.1 6 j12) ||| ((1 : Int32) <<< ((st.2.1 3 j14) &&& 31)))) fun u18 =>
      S_X6_looks_c55 K96 n x1 x2 x3 x4 (x5 + 1) u18
set_option maxHeartbeats 2000000 in
theorem A_X6_looks_c55 {l : Launch} {G : aG} {ad : Nat → Nat} {h0 : aH} (hok : mOk ad) (hl : l.stackTraces = false) {r : Int32 × MSt} {K96 : Int32 → Int32 → Int32 → Int32 → MSt → Option (Int32 × MSt)} (hK96 : ∀ (w1 : Int32) (w2 : Int32) (w3 : Int32) (w4 : Int32) (st : MSt), K96 w1 w2 w3 w4 st = some r → AW l G mX6_looks 3 0 0 (aP1 (some (.int r.1)) (mh ad r.2 h0)) 96 [(0, .ref (ad 13)), (1, .int w1), (2, .int w2), (3, .int w3), (4, .int w4)] [] (mh ad st h0) 0 0) : ∀ (n : Nat) (x1 : Int32) (x2 : Int32) (x3 : Int32) (x4 : Int32) (x5 : Int32) (st : MSt), S_X6_looks_c55 K96 n x1 x2 x3 x4 x5 st = some r → AW l G mX6_looks 3 0 0 (aP1 (some (.int r.1)) (mh ad r.2 h0)) 55 [(0, .ref (ad 13)), (1, .int x1), (2, .int x2), (3, .int x3), (4, .int x4), (5, .int x5)] [] (mh ad st h0) 0 0 := by
  intro n
  induction n with
  | zero =>
    intro x1 x2 x3 x4 x5 st hf
    rw [S_X6_looks_c55] at hf
    cases hf
  | succ n ih =>
    intro x1 x2 x3 x4 x5 st hf
    rw [S_X6_looks_c55] at hf
    refine aw_iload 5 dX6_looks_55 rfl ?_
    refine aw_aload_n 0 dX6_looks_57 rfl rfl ?_
    refine aw_get (v := .ref (ad 0)) (mg_o hok) rfl in_X6 0 (by decide) q1739 (Or.inl rfl) rfl dX6_looks_58 ?_
    refine aw_iconst (v := 0) dX6_looks_61 (by decide) ?_
    refine aw_ialdj (j := 0) (mg_0 hok) (vpc (by decide)) (by decide) dX6_looks_62 ?_
    refine aw_icmp_ge 96 dX6_looks_63 (by decide) (fun c11 => ?_) (fun c11 => ?_)
    · have hf := it_t c11 hf
      refine aw_sub [0, 1, 2, 3, 4] rfl ?_
      exact hK96 x1 x2 x3 x4 st hf
    · have hf := it_f c11 hf
      refine aw_aload_n 0 dX6_looks_66 rfl rfl ?_
      refine aw_get (v := .ref (ad 6)) (mg_o hok) rfl in_X6 16 (by decide) q1755 (Or.inl rfl) rfl dX6_looks_67 ?_
      refine aw_iload 5 dX6_looks_70 rfl ?_
      refine aw_dup2_11 dX6_looks_72 rfl rfl ?_
      obtain ⟨j12, z13, ej12, hf⟩ := ob_s hf
      refine aw_ialdj (mg_6 hok) z13 ej12 dX6_looks_73 ?_
      refine aw_iconst (v := 1) dX6_looks_74 (by decide) ?_
      refine aw_aload_n 0 dX6_looks_75 rfl rfl ?_
      refine aw_get (v := .ref (ad 3)) (mg_o hok) rfl in_X6 13 (by decide) q1752 (Or.inl rfl) rfl dX6_looks_76 ?_
      refine aw_iconst (v := 5) dX6_looks_79 (by decide) ?_
      refine aw_iload 4 dX6_looks_80 rfl ?_
      refine aw_imul dX6_looks_82 ?_
      refine aw_iload 5 dX6_looks_83 rfl ?_
      refine aw_iadd dX6_looks_85 ?_
      obtain ⟨j14, z15, ej14, hf⟩ := ob_s hf
      refine aw_ialdj (mg_3 hok) z15 ej14 dX6_looks_86 ?_
      refine aw_ishl dX6_looks_87 ?_
      refine aw_ior dX6_looks_88 ?_
      obtain ⟨j16, z17, ej16, hf⟩ := ob_s hf
      refine aw_iastj (mg_6 hok) z17 ej16 (mu_6 hok) dX6_looks_89 ?_
      refine aw_st (fun u18 eu18 => ?_)
      have hf := onm_a eu18 hf
      refine aw_iinc 5 (v := x5 + 1) (lv' := [(5, .int (x5 + 1)), (0, .ref (ad 13)), (1, .int x1), (2, .int x2), (3, .int x3), (4, .int x4)]) dX6_looks_90 rfl rfl (Nat.le_of_ble_eq_true rfl) rfl ?_
      refine aw_goto 55 dX6_looks_93 (by decide) ?_
      refine aw_sub [1, 2, 3, 4, 5, 0] rfl ?_
      exact ih x1 x2 x3 x4 (x5 + 1) u18 hf
def S_X6_looks_c29 : Nat → Int32 → Int32 → Int32 → Int32 → MSt → Option (Int32 × MSt)
  | 0, _, _, _, _, _ => none
  | n + 1, x1, x2, x3, x4, st =>
    if (st.1 9) ≤ x4 then
      some (x3, st)
    else
      (S_X6_fits n x1 x2 x4 st).bind fun q9 =>
      if q9 = 0 then
        S_X6_looks_c29 n x1 x2 x3 (x4 + 1) st
      else
        S_X6_looks_c55
          (fun y11_1 y11_2 y11_3 y11_4 u12 => 
              S_X6_looks_c29 n y11_1 y11_2 y11_3 (y11_4 + 1) u12)
           n x1 x2 (x3 + 1) x4 0 st
set_option maxHeartbeats 2000000 in
theorem A_X6_looks_c29 {l : Launch} {G : aG} {ad : Nat → Nat} {h0 : aH} (hok : mOk ad) (hl : l.stackTraces = false) {r : Int32 × MSt} : ∀ (n : Nat) (x1 : Int32) (x2 : Int32) (x3 : Int32) (x4 : Int32) (st : MSt), S_X6_looks_c29 n x1 x2 x3 x4 st = some r → AW l G mX6_looks 3 0 0 (aP1 (some (.int r.1)) (mh ad r.2 h0)) 29 [(0, .ref (ad 13)), (1, .int x1), (2, .int x2), (3, .int x3), (4, .int x4)] [] (mh ad st h0) 0 0 := by
  intro n
  induction n with
  | zero =>
    intro x1 x2 x3 x4 st hf
    rw [S_X6_looks_c29] at hf
    cases hf
  | succ n ih =>
    intro x1 x2 x3 x4 st hf
    rw [S_X6_looks_c29] at hf
    refine aw_iload 4 dX6_looks_29 rfl ?_
    refine aw_aload_n 0 dX6_looks_31 rfl rfl ?_
    refine aw_get (v := .int (st.1 9)) (mg_o hok) rfl in_X6 12 (by decide) q1751 (Or.inl rfl) rfl dX6_looks_32 ?_
    refine aw_icmp_ge 102 dX6_looks_35 (by decide) (fun c8 => ?_) (fun c8 => ?_)
    · have hf := it_t c8 hf
      refine aw_iload_n 3 dX6_looks_102 rfl rfl ?_
      cases hf
      exact aw_iret rfl dX6_looks_103 aP1_rfl (Nat.le_refl _) (Nat.le_refl _)
    · have hf := it_f c8 hf
      refine aw_aload_n 0 dX6_looks_38 rfl rfl ?_
      refine aw_iload_n 1 dX6_looks_39 rfl rfl ?_
      refine aw_iload_n 2 dX6_looks_40 rfl rfl ?_
      refine aw_iload 4 dX6_looks_41 rfl ?_
      obtain ⟨q9, eq9, hf⟩ := Option.bind_eq_some_iff.mp hf
      refine aw_callV (rest := []) (C_X6_fits hok hl eq9) (mg_o hok) rfl rfl nX6_fits q2021 q2023 qs81 q137 q2024 dX6_looks_43 rfl (by decide) (by decide) (Nat.le_of_ble_eq_true rfl) (Nat.le_refl _) (Nat.le_refl _) (aP1_i ?_) aP1_x
      refine aw_if_eq 96 dX6_looks_46 (by decide) (fun c10 => ?_) (fun c10 => ?_)
      · have hf := it_t c10 hf
        refine aw_iinc 4 (v := x4 + 1) (lv' := [(4, .int (x4 + 1)), (0, .ref (ad 13)), (1, .int x1), (2, .int x2), (3, .int x3)]) dX6_looks_96 rfl rfl (Nat.le_of_ble_eq_true rfl) rfl ?_
        refine aw_goto 29 dX6_looks_99 (by decide) ?_
        refine aw_sub [1, 2, 3, 4, 0] rfl ?_
        exact ih x1 x2 x3 (x4 + 1) st hf
      · have hf := it_f c10 hf
        refine aw_iinc 3 (v := x3 + 1) (lv' := [(3, .int (x3 + 1)), (0, .ref (ad 13)), (1, .int x1), (2, .int x2), (4, .int x4)]) dX6_looks_49 rfl rfl (Nat.le_of_ble_eq_true rfl) rfl ?_
        refine aw_iconst (v := 0) dX6_looks_52 (by decide) ?_
        refine aw_istore (lv' := [(5, .int 0), (3, .int (x3 + 1)), (0, .ref (ad 13)), (1, .int x1), (2, .int x2), (4, .int x4)]) dX6_looks_53 (Nat.le_of_ble_eq_true rfl) rfl ?_
        refine aw_sub [2, 3, 4, 1, 5, 0] rfl ?_
        refine A_X6_looks_c55 hok hl ?_ n x1 x2 (x3 + 1) x4 0 st hf
        · intro y11_1 y11_2 y11_3 y11_4 u12 hf
          refine aw_iinc 4 (v := y11_4 + 1) (lv' := [(4, .int (y11_4 + 1)), (0, .ref (ad 13)), (1, .int y11_1), (2, .int y11_2), (3, .int y11_3)]) dX6_looks_96 rfl rfl (Nat.le_of_ble_eq_true rfl) rfl ?_
          refine aw_goto 29 dX6_looks_99 (by decide) ?_
          refine aw_sub [1, 2, 3, 4, 0] rfl ?_
          exact ih y11_1 y11_2 y11_3 (y11_4 + 1) u12 hf
def S_X6_looks (n : Nat) (x1 : Int32) (x2 : Int32) (st : MSt) : Option (Int32 × MSt) :=
  (S_X6_lists n st).bind fun q1 =>
  S_X6_looks_c6
    (fun y6_1 y6_2 u7 => 
        S_X6_looks_c29 n y6_1 y6_2 0 0 u7)
     n x1 x2 0 q1
set_option maxHeartbeats 2000000 in
theorem C_X6_looks {l : Launch} {G : aG} {ad : Nat → Nat} {h0 : aH} (hok : mOk ad) (hl : l.stackTraces = false) {n : Nat} {x1 : Int32} {x2 : Int32} {st : MSt} {r : Int32 × MSt} (hf : S_X6_looks n x1 x2 st = some r) : aC l G mX6_looks (ws_ yX6_looks cX6_looks 6 (some .int)) 3 0 0 [.ref (ad 13), .int x1, .int x2] (mh ad st h0) (aP1 (some (.int r.1)) (mh ad r.2 h0)) := by
  refine aC_of (M := mX6_looks) rfl (by decide) (Nat.le_of_ble_eq_true rfl) hl ?_
  rw [S_X6_looks] at hf
  refine aw_eqv (lv2 := [(0, .ref (ad 13)), (1, .int x1), (2, .int x2)]) rfl rfl rfl rfl ?_
  refine aw_aload_n 0 dX6_looks_0 rfl rfl ?_
  obtain ⟨q1, eq1, hf⟩ := Option.bind_eq_some_iff.mp hf
  refine aw_callV (rest := []) (C_X6_lists hok hl eq1) (mg_o hok) rfl rfl nX6_lists q1884 q1886 qs65 q137 q1887 dX6_looks_1 rfl (by decide) (by decide) (Nat.le_of_ble_eq_true rfl) (Nat.le_refl _) (Nat.le_refl _) (aP1_v ?_) aP1_x
  refine aw_iconst (v := 0) dX6_looks_4 (by decide) ?_
  refine aw_istore_n (lv' := [(3, .int 0), (0, .ref (ad 13)), (1, .int x1), (2, .int x2)]) dX6_looks_5 rfl (Nat.le_of_ble_eq_true rfl) rfl ?_
  refine aw_sub [1, 2, 3, 0] rfl ?_
  refine A_X6_looks_c6 hok hl ?_ n x1 x2 0 q1 hf
  · intro y6_1 y6_2 u7 hf
    refine aw_iconst (v := 0) dX6_looks_24 (by decide) ?_
    refine aw_istore_n (lv' := [(3, .int 0), (0, .ref (ad 13)), (1, .int y6_1), (2, .int y6_2)]) dX6_looks_25 rfl (Nat.le_of_ble_eq_true rfl) rfl ?_
    refine aw_iconst (v := 0) dX6_looks_26 (by decide) ?_
    refine aw_istore (lv' := [(4, .int 0), (3, .int 0), (0, .ref (ad 13)), (1, .int y6_1), (2, .int y6_2)]) dX6_looks_27 (Nat.le_of_ble_eq_true rfl) rfl ?_
    refine aw_sub [2, 3, 4, 1, 0] rfl ?_
    exact A_X6_looks_c29 hok hl n y6_1 y6_2 0 0 u7 hf
abbrev mX6_looksAtAll : aM := (yX6_looksAtAll, cX6_looksAtAll, 5, some .int, [])
theorem nX6_looksAtAll : aNoMH yX6_looksAtAll 1 := by decide +kernel
def S_X6_looksAtAll_c34 (K69 : Int32 → Int32 → Int32 → MSt → Option (Int32 × MSt)) : Nat → Int32 → Int32 → Int32 → Int32 → MSt → Option (Int32 × MSt)
  | 0, _, _, _, _, _ => none
  | n + 1, x1, x2, x3, x4, st =>
    if (st.2.1 0 0) ≤ x4 then
      K69 x1 x2 x3 st
    else
      ob x4 5 fun j7 =>
      ob (((5 : Int32) * x3) + x4) 60 fun j9 =>
      onm (mA st 7 j9 (st.2.1 6 j7)) fun u11 =>
      S_X6_looksAtAll_c34 K69 n x1 x2 x3 (x4 + 1) u11
set_option maxHeartbeats 2000000 in
theorem A_X6_looksAtAll_c34 {l : Launch} {G : aG} {ad : Nat → Nat} {h0 : aH} (hok : mOk ad) (hl : l.stackTraces = false) {r : Int32 × MSt} {K69 : Int32 → Int32 → Int32 → MSt → Option (Int32 × MSt)} (hK69 : ∀ (w1 : Int32) (w2 : Int32) (w3 : Int32) (st : MSt), K69 w1 w2 w3 st = some r → AW l G mX6_looksAtAll 4 0 0 (aP1 (some (.int r.1)) (mh ad r.2 h0)) 69 [(0, .ref (ad 13)), (1, .int w1), (2, .int w2), (3, .int w3)] [] (mh ad st h0) 0 0) : ∀ (n : Nat) (x1 : Int32) (x2 : Int32) (x3 : Int32) (x4 : Int32) (st : MSt), S_X6_looksAtAll_c34 K69 n x1 x2 x3 x4 st = some r → AW l G mX6_looksAtAll 4 0 0 (aP1 (some (.int r.1)) (mh ad r.2 h0)) 34 [(0, .ref (ad 13)), (1, .int x1), (2, .int x2), (3, .int x3), (4, .int x4)] [] (mh ad st h0) 0 0 := by
  intro n
  induction n with
  | zero =>
    intro x1 x2 x3 x4 st hf
    rw [S_X6_looksAtAll_c34] at hf
    cases hf
  | succ n ih =>
    intro x1 x2 x3 x4 st hf
    rw [S_X6_looksAtAll_c34] at hf
    refine aw_iload 4 dX6_looksAtAll_34 rfl ?_
    refine aw_aload_n 0 dX6_looksAtAll_36 rfl rfl ?_
    refine aw_get (v := .ref (ad 0)) (mg_o hok) rfl in_X6 0 (by decide) q1739 (Or.inl rfl) rfl dX6_looksAtAll_37 ?_
    refine aw_iconst (v := 0) dX6_looksAtAll_40 (by decide) ?_
    refine aw_ialdj (j := 0) (mg_0 hok) (vpc (by decide)) (by decide) dX6_looksAtAll_41 ?_
    refine aw_icmp_ge 69 dX6_looksAtAll_42 (by decide) (fun c6 => ?_) (fun c6 => ?_)
    · have hf := it_t c6 hf
      refine aw_sub [0, 1, 2, 3] rfl ?_
      exact hK69 x1 x2 x3 st hf
    · have hf := it_f c6 hf
      refine aw_aload_n 0 dX6_looksAtAll_45 rfl rfl ?_
      refine aw_get (v := .ref (ad 7)) (mg_o hok) rfl in_X6 17 (by decide) q1756 (Or.inl rfl) rfl dX6_looksAtAll_46 ?_
      refine aw_iconst (v := 5) dX6_looksAtAll_49 (by decide) ?_
      refine aw_iload_n 3 dX6_looksAtAll_50 rfl rfl ?_
      refine aw_imul dX6_looksAtAll_51 ?_
      refine aw_iload 4 dX6_looksAtAll_52 rfl ?_
      refine aw_iadd dX6_looksAtAll_54 ?_
      refine aw_aload_n 0 dX6_looksAtAll_55 rfl rfl ?_
      refine aw_get (v := .ref (ad 6)) (mg_o hok) rfl in_X6 16 (by decide) q1755 (Or.inl rfl) rfl dX6_looksAtAll_56 ?_
      refine aw_iload 4 dX6_looksAtAll_59 rfl ?_
      obtain ⟨j7, z8, ej7, hf⟩ := ob_s hf
      refine aw_ialdj (mg_6 hok) z8 ej7 dX6_looksAtAll_61 ?_
      obtain ⟨j9, z10, ej9, hf⟩ := ob_s hf
      refine aw_iastj (mg_7 hok) z10 ej9 (mu_7 hok) dX6_looksAtAll_62 ?_
      refine aw_st (fun u11 eu11 => ?_)
      have hf := onm_a eu11 hf
      refine aw_iinc 4 (v := x4 + 1) (lv' := [(4, .int (x4 + 1)), (0, .ref (ad 13)), (1, .int x1), (2, .int x2), (3, .int x3)]) dX6_looksAtAll_63 rfl rfl (Nat.le_of_ble_eq_true rfl) rfl ?_
      refine aw_goto 34 dX6_looksAtAll_66 (by decide) ?_
      refine aw_sub [1, 2, 3, 4, 0] rfl ?_
      exact ih x1 x2 x3 (x4 + 1) u11 hf
def S_X6_looksAtAll_c4 : Nat → Int32 → Int32 → Int32 → MSt → Option (Int32 × MSt)
  | 0, _, _, _, _ => none
  | n + 1, x1, x2, x3, st =>
    (S_X6_lines st).bind fun q1 =>
    if q1 ≤ x3 then
      some (x2, st)
    else
      (S_X6_looks n x1 x3 st).bind fun q3 =>
      if q3.1 = 0 then
        onm (x2 ||| ((1 : Int32) <<< (x3 &&& 31))) fun v8 =>
        S_X6_looksAtAll_c34
          (fun y9_1 y9_2 y9_3 u10 => 
              S_X6_looksAtAll_c4 n y9_1 y9_2 (y9_3 + 1) u10)
           n x1 v8 x3 0 q3.2
      else
        onm (x2 ||| (0 : Int32)) fun v5 =>
        S_X6_looksAtAll_c34
          (fun y6_1 y6_2 y6_3 u7 => 
              S_X6_looksAtAll_c4 n y6_1 y6_2 (y6_3 + 1) u7)
           n x1 v5 x3 0 q3.2
set_option maxHeartbeats 2000000 in
theorem A_X6_looksAtAll_c4 {l : Launch} {G : aG} {ad : Nat → Nat} {h0 : aH} (hok : mOk ad) (hl : l.stackTraces = false) {r : Int32 × MSt} : ∀ (n : Nat) (x1 : Int32) (x2 : Int32) (x3 : Int32) (st : MSt), S_X6_looksAtAll_c4 n x1 x2 x3 st = some r → AW l G mX6_looksAtAll 4 0 0 (aP1 (some (.int r.1)) (mh ad r.2 h0)) 4 [(0, .ref (ad 13)), (1, .int x1), (2, .int x2), (3, .int x3)] [] (mh ad st h0) 0 0 := by
  intro n
  induction n with
  | zero =>
    intro x1 x2 x3 st hf
    rw [S_X6_looksAtAll_c4] at hf
    cases hf
  | succ n ih =>
    intro x1 x2 x3 st hf
    rw [S_X6_looksAtAll_c4] at hf
    refine aw_iload_n 3 dX6_looksAtAll_4 rfl rfl ?_
    refine aw_aload_n 0 dX6_looksAtAll_5 rfl rfl ?_
    obtain ⟨q1, eq1, hf⟩ := Option.bind_eq_some_iff.mp hf
    refine aw_callV (rest := [.int x3]) (C_X6_lines hok hl eq1) (mg_o hok) rfl rfl nX6_lines q1930 q1932 qs70 q137 q1933 dX6_looksAtAll_6 rfl (by decide) (by decide) (Nat.le_of_ble_eq_true rfl) (Nat.le_refl _) (Nat.le_refl _) (aP1_i ?_) aP1_x
    refine aw_icmp_ge 75 dX6_looksAtAll_9 (by decide) (fun c2 => ?_) (fun c2 => ?_)
    · have hf := it_t c2 hf
      refine aw_iload_n 2 dX6_looksAtAll_75 rfl rfl ?_
      cases hf
      exact aw_iret rfl dX6_looksAtAll_76 aP1_rfl (Nat.le_refl _) (Nat.le_refl _)
    · have hf := it_f c2 hf
      refine aw_iload_n 2 dX6_looksAtAll_12 rfl rfl ?_
      refine aw_aload_n 0 dX6_looksAtAll_13 rfl rfl ?_
      refine aw_iload_n 1 dX6_looksAtAll_14 rfl rfl ?_
      refine aw_iload_n 3 dX6_looksAtAll_15 rfl rfl ?_
      obtain ⟨q3, eq3, hf⟩ := Option.bind_eq_some_iff.mp hf
      refine aw_callV (rest := [.int x2]) (C_X6_looks hok hl eq3) (mg_o hok) rfl rfl nX6_looks q2017 q2019 qs80 q137 q2020 dX6_looksAtAll_16 rfl (by decide) (by decide) (Nat.le_of_ble_eq_true rfl) (Nat.le_refl _) (Nat.le_refl _) (aP1_i ?_) aP1_x
      refine aw_if_ne 28 dX6_looksAtAll_19 (by decide) (fun c4 => ?_) (fun c4 => ?_)
      · have hf := it_f c4 hf
        refine aw_iconst (v := 0) dX6_looksAtAll_28 (by decide) ?_
        refine aw_ior dX6_looksAtAll_29 ?_
        refine aw_topi (fun v5 ev5 => ?_)
        have hf := onm_a ev5 hf
        refine aw_istore_n (lv' := [(2, .int v5), (0, .ref (ad 13)), (1, .int x1), (3, .int x3)]) dX6_looksAtAll_30 rfl (Nat.le_of_ble_eq_true rfl) rfl ?_
        refine aw_iconst (v := 0) dX6_looksAtAll_31 (by decide) ?_
        refine aw_istore (lv' := [(4, .int 0), (2, .int v5), (0, .ref (ad 13)), (1, .int x1), (3, .int x3)]) dX6_looksAtAll_32 (Nat.le_of_ble_eq_true rfl) rfl ?_
        refine aw_sub [2, 3, 1, 4, 0] rfl ?_
        refine A_X6_looksAtAll_c34 hok hl ?_ n x1 v5 x3 0 q3.2 hf
        · intro y6_1 y6_2 y6_3 u7 hf
          refine aw_iinc 3 (v := y6_3 + 1) (lv' := [(3, .int (y6_3 + 1)), (0, .ref (ad 13)), (1, .int y6_1), (2, .int y6_2)]) dX6_looksAtAll_69 rfl rfl (Nat.le_of_ble_eq_true rfl) rfl ?_
          refine aw_goto 4 dX6_looksAtAll_72 (by decide) ?_
          refine aw_sub [1, 2, 3, 0] rfl ?_
          exact ih y6_1 y6_2 (y6_3 + 1) u7 hf
      · have hf := it_t c4 hf
        refine aw_iconst (v := 1) dX6_looksAtAll_22 (by decide) ?_
        refine aw_iload_n 3 dX6_looksAtAll_23 rfl rfl ?_
        refine aw_ishl dX6_looksAtAll_24 ?_
        refine aw_goto 29 dX6_looksAtAll_25 (by decide) ?_
        refine aw_ior dX6_looksAtAll_29 ?_
        refine aw_topi (fun v8 ev8 => ?_)
        have hf := onm_a ev8 hf
        refine aw_istore_n (lv' := [(2, .int v8), (0, .ref (ad 13)), (1, .int x1), (3, .int x3)]) dX6_looksAtAll_30 rfl (Nat.le_of_ble_eq_true rfl) rfl ?_
        refine aw_iconst (v := 0) dX6_looksAtAll_31 (by decide) ?_
        refine aw_istore (lv' := [(4, .int 0), (2, .int v8), (0, .ref (ad 13)), (1, .int x1), (3, .int x3)]) dX6_looksAtAll_32 (Nat.le_of_ble_eq_true rfl) rfl ?_
        refine aw_sub [2, 3, 1, 4, 0] rfl ?_
        refine A_X6_looksAtAll_c34 hok hl ?_ n x1 v8 x3 0 q3.2 hf
        · intro y9_1 y9_2 y9_3 u10 hf
          refine aw_iinc 3 (v := y9_3 + 1) (lv' := [(3, .int (y9_3 + 1)), (0, .ref (ad 13)), (1, .int y9_1), (2, .int y9_2)]) dX6_looksAtAll_69 rfl rfl (Nat.le_of_ble_eq_true rfl) rfl ?_
          refine aw_goto 4 dX6_looksAtAll_72 (by decide) ?_
          refine aw_sub [1, 2, 3, 0] rfl ?_
          exact ih y9_1 y9_2 (y9_3 + 1) u10 hf
def S_X6_looksAtAll (n : Nat) (x1 : Int32) (st : MSt) : Option (Int32 × MSt) :=
  S_X6_looksAtAll_c4 n x1 0 0 st
set_option maxHeartbeats 2000000 in
theorem C_X6_looksAtAll {l : Launch} {G : aG} {ad : Nat → Nat} {h0 : aH} (hok : mOk ad) (hl : l.stackTraces = false) {n : Nat} {x1 : Int32} {st : MSt} {r : Int32 × MSt} (hf : S_X6_looksAtAll n x1 st = some r) : aC l G mX6_looksAtAll (ws_ yX6_looksAtAll cX6_looksAtAll 5 (some .int)) 4 0 0 [.ref (ad 13), .int x1] (mh ad st h0) (aP1 (some (.int r.1)) (mh ad r.2 h0)) := by
  refine aC_of (M := mX6_looksAtAll) rfl (by decide) (Nat.le_of_ble_eq_true rfl) hl ?_
  rw [S_X6_looksAtAll] at hf
  refine aw_eqv (lv2 := [(0, .ref (ad 13)), (1, .int x1)]) rfl rfl rfl rfl ?_
  refine aw_iconst (v := 0) dX6_looksAtAll_0 (by decide) ?_
  refine aw_istore_n (lv' := [(2, .int 0), (0, .ref (ad 13)), (1, .int x1)]) dX6_looksAtAll_1 rfl (Nat.le_of_ble_eq_true rfl) rfl ?_
  refine aw_iconst (v := 0) dX6_looksAtAll_2 (by decide) ?_
  refine aw_istore_n (lv' := [(3, .int 0), (2, .int 0), (0, .ref (ad 13)), (1, .int x1)]) dX6_looksAtAll_3 rfl (Nat.le_of_ble_eq_true rfl) rfl ?_
  refine aw_sub [2, 3, 1, 0] rfl ?_
  exact A_X6_looksAtAll_c4 hok hl n x1 0 0 st hf
abbrev mX6_brokenNow : aM := (yX6_brokenNow, cX6_brokenNow, 1, some .int, [])
theorem nX6_brokenNow : aNoMH yX6_brokenNow 0 := by decide +kernel
def S_X6_brokenNow (n : Nat) (st : MSt) : Option (Int32 × MSt) :=
  (S_X6_loads n 0 st).bind fun q1 =>
  (S_X6_looksAtAll n 0 q1).bind fun q2 =>
  some (q2.1, q2.2)
set_option maxHeartbeats 2000000 in
theorem C_X6_brokenNow {l : Launch} {G : aG} {ad : Nat → Nat} {h0 : aH} (hok : mOk ad) (hl : l.stackTraces = false) {n : Nat} {st : MSt} {r : Int32 × MSt} (hf : S_X6_brokenNow n st = some r) : aC l G mX6_brokenNow (ws_ yX6_brokenNow cX6_brokenNow 1 (some .int)) 5 0 0 [.ref (ad 13)] (mh ad st h0) (aP1 (some (.int r.1)) (mh ad r.2 h0)) := by
  refine aC_of (M := mX6_brokenNow) rfl (by decide) (Nat.le_of_ble_eq_true rfl) hl ?_
  rw [S_X6_brokenNow] at hf
  refine aw_eqv (lv2 := [(0, .ref (ad 13))]) rfl rfl rfl rfl ?_
  refine aw_aload_n 0 dX6_brokenNow_0 rfl rfl ?_
  refine aw_iconst (v := 0) dX6_brokenNow_1 (by decide) ?_
  obtain ⟨q1, eq1, hf⟩ := Option.bind_eq_some_iff.mp hf
  refine aw_callV (rest := []) (C_X6_loads hok hl eq1) (mg_o hok) rfl rfl nX6_loads q2009 q2011 qs78 q137 q2012 dX6_brokenNow_2 rfl (by decide) (by decide) (Nat.le_of_ble_eq_true rfl) (Nat.le_refl _) (Nat.le_refl _) (aP1_v ?_) aP1_x
  refine aw_aload_n 0 dX6_brokenNow_5 rfl rfl ?_
  refine aw_iconst (v := 0) dX6_brokenNow_6 (by decide) ?_
  obtain ⟨q2, eq2, hf⟩ := Option.bind_eq_some_iff.mp hf
  refine aw_callV (rest := []) (C_X6_looksAtAll hok hl eq2) (mg_o hok) rfl rfl nX6_looksAtAll q2013 q2015 qs79 q137 q2016 dX6_brokenNow_7 rfl (by decide) (by decide) (Nat.le_of_ble_eq_true rfl) (Nat.le_refl _) (Nat.le_refl _) (aP1_i ?_) aP1_x
  cases hf
  exact aw_iret rfl dX6_brokenNow_10 aP1_rfl (Nat.le_refl _) (Nat.le_refl _)
abbrev mX6_isBroken : aM := (yX6_isBroken, cX6_isBroken, 1, some .boolean, [])
theorem nX6_isBroken : aNoMH yX6_isBroken 0 := by decide +kernel
def S_X6_isBroken (n : Nat) (st : MSt) : Option (Int32 × MSt) :=
  onm (mI st 2 0) fun u1 =>
  (S_X6_brokenNow n u1).bind fun q2 =>
  if q2.1 = 0 then
    some (0, q2.2)
  else
    some (1, q2.2)
set_option maxHeartbeats 2000000 in
theorem C_X6_isBroken {l : Launch} {G : aG} {ad : Nat → Nat} {h0 : aH} (hok : mOk ad) (hl : l.stackTraces = false) {n : Nat} {st : MSt} {r : Int32 × MSt} (hf : S_X6_isBroken n st = some r) : aC l G mX6_isBroken (ws_ yX6_isBroken cX6_isBroken 1 (some .boolean)) 6 0 0 [.ref (ad 13)] (mh ad st h0) (aP1 (some (.int r.1)) (mh ad r.2 h0)) := by
  refine aC_of (M := mX6_isBroken) rfl (by decide) (Nat.le_of_ble_eq_true rfl) hl ?_
  rw [S_X6_isBroken] at hf
  refine aw_eqv (lv2 := [(0, .ref (ad 13))]) rfl rfl rfl rfl ?_
  refine aw_aload_n 0 dX6_isBroken_0 rfl rfl ?_
  refine aw_iconst (v := 0) dX6_isBroken_1 (by decide) ?_
  refine aw_put (mg_o hok) rfl in_X6 tyX6_ok nmX6 5 (by decide) q1744 (Or.inl rfl) rfl rfl rfl (Nat.le_of_ble_eq_true rfl) (mu_i2 hok) dX6_isBroken_2 ?_
  refine aw_st (fun u1 eu1 => ?_)
  have hf := onm_a eu1 hf
  refine aw_aload_n 0 dX6_isBroken_5 rfl rfl ?_
  obtain ⟨q2, eq2, hf⟩ := Option.bind_eq_some_iff.mp hf
  refine aw_callV (rest := []) (C_X6_brokenNow hok hl eq2) (mg_o hok) rfl rfl nX6_brokenNow q2005 q2007 qs77 q137 q2008 dX6_isBroken_6 rfl (by decide) (by decide) (Nat.le_of_ble_eq_true rfl) (Nat.le_refl _) (Nat.le_refl _) (aP1_i ?_) aP1_x
  refine aw_if_eq 16 dX6_isBroken_9 (by decide) (fun c3 => ?_) (fun c3 => ?_)
  · have hf := it_t c3 hf
    refine aw_iconst (v := 0) dX6_isBroken_16 (by decide) ?_
    cases hf
    exact aw_zret rfl rfl dX6_isBroken_17 aP1_rfl (Nat.le_refl _) (Nat.le_refl _)
  · have hf := it_f c3 hf
    refine aw_iconst (v := 1) dX6_isBroken_12 (by decide) ?_
    refine aw_goto 17 dX6_isBroken_13 (by decide) ?_
    cases hf
    exact aw_zret rfl rfl dX6_isBroken_17 aP1_rfl (Nat.le_refl _) (Nat.le_refl _)
abbrev mX6_isSolution : aM := (yX6_isSolution, cX6_isSolution, 4, some .boolean, [])
theorem nX6_isSolution : aNoMH yX6_isSolution 1 := by decide +kernel
def S_X6_isSolution_c4 (K43 : Int32 → Int32 → MSt → Option (Int32 × MSt)) : Nat → Int32 → Int32 → Int32 → MSt → Option (Int32 × MSt)
  | 0, _, _, _, _ => none
  | n + 1, x1, x2, x3, st =>
    (S_X6_cells st).bind fun q1 =>
    if q1 ≤ x3 then
      K43 x1 x2 st
    else
      if x2 = 0 then
        S_X6_isSolution_c4 K43 n x1 0 (x3 + 1) st
      else
        ob (x1 + x3) 750 fun j4 =>
        (S_X6_isSettled n (st.2.1 5 j4) st).bind fun q6 =>
        if q6 = 0 then
          S_X6_isSolution_c4 K43 n x1 0 (x3 + 1) st
        else
          S_X6_isSolution_c4 K43 n x1 1 (x3 + 1) st
set_option maxHeartbeats 2000000 in
theorem A_X6_isSolution_c4 {l : Launch} {G : aG} {ad : Nat → Nat} {h0 : aH} (hok : mOk ad) (hl : l.stackTraces = false) {r : Int32 × MSt} {K43 : Int32 → Int32 → MSt → Option (Int32 × MSt)} (hK43 : ∀ (w1 : Int32) (w2 : Int32) (st : MSt), K43 w1 w2 st = some r → AW l G mX6_isSolution 5 0 0 (aP1 (some (.int r.1)) (mh ad r.2 h0)) 43 [(0, .ref (ad 13)), (1, .int w1), (2, .int w2)] [] (mh ad st h0) 0 0) : ∀ (n : Nat) (x1 : Int32) (x2 : Int32) (x3 : Int32) (st : MSt), S_X6_isSolution_c4 K43 n x1 x2 x3 st = some r → AW l G mX6_isSolution 5 0 0 (aP1 (some (.int r.1)) (mh ad r.2 h0)) 4 [(0, .ref (ad 13)), (1, .int x1), (2, .int x2), (3, .int x3)] [] (mh ad st h0) 0 0 := by
  intro n
  induction n with
  | zero =>
    intro x1 x2 x3 st hf
    rw [S_X6_isSolution_c4] at hf
    cases hf
  | succ n ih =>
    intro x1 x2 x3 st hf
    rw [S_X6_isSolution_c4] at hf
    refine aw_iload_n 3 dX6_isSolution_4 rfl rfl ?_
    refine aw_aload_n 0 dX6_isSolution_5 rfl rfl ?_
    obtain ⟨q1, eq1, hf⟩ := Option.bind_eq_some_iff.mp hf
    refine aw_callV (rest := [.int x3]) (C_X6_cells hok hl eq1) (mg_o hok) rfl rfl nX6_cells q1735 q1737 qs54 q137 q1738 dX6_isSolution_6 rfl (by decide) (by decide) (Nat.le_of_ble_eq_true rfl) (Nat.le_refl _) (Nat.le_refl _) (aP1_i ?_) aP1_x
    refine aw_icmp_ge 43 dX6_isSolution_9 (by decide) (fun c2 => ?_) (fun c2 => ?_)
    · have hf := it_t c2 hf
      refine aw_sub [0, 1, 2] rfl ?_
      exact hK43 x1 x2 st hf
    · have hf := it_f c2 hf
      refine aw_iload_n 2 dX6_isSolution_12 rfl rfl ?_
      refine aw_if_eq 35 dX6_isSolution_13 (by decide) (fun c3 => ?_) (fun c3 => ?_)
      · have hf := it_t c3 hf
        refine aw_iconst (v := 0) dX6_isSolution_35 (by decide) ?_
        refine aw_istore_n (lv' := [(2, .int 0), (0, .ref (ad 13)), (1, .int x1), (3, .int x3)]) dX6_isSolution_36 rfl (Nat.le_of_ble_eq_true rfl) rfl ?_
        refine aw_iinc 3 (v := x3 + 1) (lv' := [(3, .int (x3 + 1)), (2, .int 0), (0, .ref (ad 13)), (1, .int x1)]) dX6_isSolution_37 rfl rfl (Nat.le_of_ble_eq_true rfl) rfl ?_
        refine aw_goto 4 dX6_isSolution_40 (by decide) ?_
        refine aw_sub [2, 3, 1, 0] rfl ?_
        exact ih x1 0 (x3 + 1) st hf
      · have hf := it_f c3 hf
        refine aw_aload_n 0 dX6_isSolution_16 rfl rfl ?_
        refine aw_aload_n 0 dX6_isSolution_17 rfl rfl ?_
        refine aw_get (v := .ref (ad 5)) (mg_o hok) rfl in_X6 15 (by decide) q1754 (Or.inl rfl) rfl dX6_isSolution_18 ?_
        refine aw_iload_n 1 dX6_isSolution_21 rfl rfl ?_
        refine aw_iload_n 3 dX6_isSolution_22 rfl rfl ?_
        refine aw_iadd dX6_isSolution_23 ?_
        obtain ⟨j4, z5, ej4, hf⟩ := ob_s hf
        refine aw_ialdj (mg_5 hok) z5 ej4 dX6_isSolution_24 ?_
        obtain ⟨q6, eq6, hf⟩ := Option.bind_eq_some_iff.mp hf
        refine aw_callV (rest := []) (C_X6_isSettled hok hl eq6) (mg_o hok) rfl rfl nX6_isSettled q1994 q1996 qs76 q137 q1997 dX6_isSolution_25 rfl (by decide) (by decide) (Nat.le_of_ble_eq_true rfl) (Nat.le_refl _) (Nat.le_refl _) (aP1_i ?_) aP1_x
        refine aw_if_eq 35 dX6_isSolution_28 (by decide) (fun c7 => ?_) (fun c7 => ?_)
        · have hf := it_t c7 hf
          refine aw_iconst (v := 0) dX6_isSolution_35 (by decide) ?_
          refine aw_istore_n (lv' := [(2, .int 0), (0, .ref (ad 13)), (1, .int x1), (3, .int x3)]) dX6_isSolution_36 rfl (Nat.le_of_ble_eq_true rfl) rfl ?_
          refine aw_iinc 3 (v := x3 + 1) (lv' := [(3, .int (x3 + 1)), (2, .int 0), (0, .ref (ad 13)), (1, .int x1)]) dX6_isSolution_37 rfl rfl (Nat.le_of_ble_eq_true rfl) rfl ?_
          refine aw_goto 4 dX6_isSolution_40 (by decide) ?_
          refine aw_sub [2, 3, 1, 0] rfl ?_
          exact ih x1 0 (x3 + 1) st hf
        · have hf := it_f c7 hf
          refine aw_iconst (v := 1) dX6_isSolution_31 (by decide) ?_
          refine aw_goto 36 dX6_isSolution_32 (by decide) ?_
          refine aw_istore_n (lv' := [(2, .int 1), (0, .ref (ad 13)), (1, .int x1), (3, .int x3)]) dX6_isSolution_36 rfl (Nat.le_of_ble_eq_true rfl) rfl ?_
          refine aw_iinc 3 (v := x3 + 1) (lv' := [(3, .int (x3 + 1)), (2, .int 1), (0, .ref (ad 13)), (1, .int x1)]) dX6_isSolution_37 rfl rfl (Nat.le_of_ble_eq_true rfl) rfl ?_
          refine aw_goto 4 dX6_isSolution_40 (by decide) ?_
          refine aw_sub [2, 3, 1, 0] rfl ?_
          exact ih x1 1 (x3 + 1) st hf
def S_X6_isSolution (n : Nat) (x1 : Int32) (st : MSt) : Option (Int32 × MSt) :=
  S_X6_isSolution_c4
    (fun y8_1 y8_2 u9 => 
        if y8_2 = 0 then
          some (0, u9)
        else
          (S_X6_looksAtAll n y8_1 u9).bind fun q11 =>
          if q11.1 = 0 then
            some (1, q11.2)
          else
            some (0, q11.2))
     n x1 1 0 st
set_option maxHeartbeats 2000000 in
theorem C_X6_isSolution {l : Launch} {G : aG} {ad : Nat → Nat} {h0 : aH} (hok : mOk ad) (hl : l.stackTraces = false) {n : Nat} {x1 : Int32} {st : MSt} {r : Int32 × MSt} (hf : S_X6_isSolution n x1 st = some r) : aC l G mX6_isSolution (ws_ yX6_isSolution cX6_isSolution 4 (some .boolean)) 5 0 0 [.ref (ad 13), .int x1] (mh ad st h0) (aP1 (some (.int r.1)) (mh ad r.2 h0)) := by
  refine aC_of (M := mX6_isSolution) rfl (by decide) (Nat.le_of_ble_eq_true rfl) hl ?_
  rw [S_X6_isSolution] at hf
  refine aw_eqv (lv2 := [(0, .ref (ad 13)), (1, .int x1)]) rfl rfl rfl rfl ?_
  refine aw_iconst (v := 1) dX6_isSolution_0 (by decide) ?_
  refine aw_istore_n (lv' := [(2, .int 1), (0, .ref (ad 13)), (1, .int x1)]) dX6_isSolution_1 rfl (Nat.le_of_ble_eq_true rfl) rfl ?_
  refine aw_iconst (v := 0) dX6_isSolution_2 (by decide) ?_
  refine aw_istore_n (lv' := [(3, .int 0), (2, .int 1), (0, .ref (ad 13)), (1, .int x1)]) dX6_isSolution_3 rfl (Nat.le_of_ble_eq_true rfl) rfl ?_
  refine aw_sub [2, 3, 1, 0] rfl ?_
  refine A_X6_isSolution_c4 hok hl ?_ n x1 1 0 st hf
  · intro y8_1 y8_2 u9 hf
    refine aw_iload_n 2 dX6_isSolution_43 rfl rfl ?_
    refine aw_if_eq 59 dX6_isSolution_44 (by decide) (fun c10 => ?_) (fun c10 => ?_)
    · have hf := it_t c10 hf
      refine aw_iconst (v := 0) dX6_isSolution_59 (by decide) ?_
      cases hf
      exact aw_zret rfl rfl dX6_isSolution_60 aP1_rfl (Nat.le_refl _) (Nat.le_refl _)
    · have hf := it_f c10 hf
      refine aw_aload_n 0 dX6_isSolution_47 rfl rfl ?_
      refine aw_iload_n 1 dX6_isSolution_48 rfl rfl ?_
      obtain ⟨q11, eq11, hf⟩ := Option.bind_eq_some_iff.mp hf
      refine aw_callV (rest := []) (C_X6_looksAtAll hok hl eq11) (mg_o hok) rfl rfl nX6_looksAtAll q2013 q2015 qs79 q137 q2016 dX6_isSolution_49 rfl (by decide) (by decide) (Nat.le_of_ble_eq_true rfl) (Nat.le_refl _) (Nat.le_refl _) (aP1_i ?_) aP1_x
      refine aw_if_ne 59 dX6_isSolution_52 (by decide) (fun c12 => ?_) (fun c12 => ?_)
      · have hf := it_f c12 hf
        refine aw_iconst (v := 0) dX6_isSolution_59 (by decide) ?_
        cases hf
        exact aw_zret rfl rfl dX6_isSolution_60 aP1_rfl (Nat.le_refl _) (Nat.le_refl _)
      · have hf := it_t c12 hf
        refine aw_iconst (v := 1) dX6_isSolution_55 (by decide) ?_
        refine aw_goto 60 dX6_isSolution_56 (by decide) ?_
        cases hf
        exact aw_zret rfl rfl dX6_isSolution_60 aP1_rfl (Nat.le_refl _) (Nat.le_refl _)
abbrev mX6_isSolved : aM := (yX6_isSolved, cX6_isSolved, 1, some .boolean, [])
theorem nX6_isSolved : aNoMH yX6_isSolved 0 := by decide +kernel
def S_X6_isSolved (n : Nat) (st : MSt) : Option (Int32 × MSt) :=
  onm (mI st 2 0) fun u1 =>
  (S_X6_loads n 0 u1).bind fun q2 =>
  (S_X6_isSolution n 0 q2).bind fun q3 =>
  onr .boolean q3.1 <|
  some (q3.1, q3.2)
set_option maxHeartbeats 2000000 in
theorem C_X6_isSolved {l : Launch} {G : aG} {ad : Nat → Nat} {h0 : aH} (hok : mOk ad) (hl : l.stackTraces = false) {n : Nat} {st : MSt} {r : Int32 × MSt} (hf : S_X6_isSolved n st = some r) : aC l G mX6_isSolved (ws_ yX6_isSolved cX6_isSolved 1 (some .boolean)) 6 0 0 [.ref (ad 13)] (mh ad st h0) (aP1 (some (.int r.1)) (mh ad r.2 h0)) := by
  refine aC_of (M := mX6_isSolved) rfl (by decide) (Nat.le_of_ble_eq_true rfl) hl ?_
  rw [S_X6_isSolved] at hf
  refine aw_eqv (lv2 := [(0, .ref (ad 13))]) rfl rfl rfl rfl ?_
  refine aw_aload_n 0 dX6_isSolved_0 rfl rfl ?_
  refine aw_iconst (v := 0) dX6_isSolved_1 (by decide) ?_
  refine aw_put (mg_o hok) rfl in_X6 tyX6_ok nmX6 5 (by decide) q1744 (Or.inl rfl) rfl rfl rfl (Nat.le_of_ble_eq_true rfl) (mu_i2 hok) dX6_isSolved_2 ?_
  refine aw_st (fun u1 eu1 => ?_)
  have hf := onm_a eu1 hf
  refine aw_aload_n 0 dX6_isSolved_5 rfl rfl ?_
  refine aw_iconst (v := 0) dX6_isSolved_6 (by decide) ?_
  obtain ⟨q2, eq2, hf⟩ := Option.bind_eq_some_iff.mp hf
  refine aw_callV (rest := []) (C_X6_loads hok hl eq2) (mg_o hok) rfl rfl nX6_loads q2009 q2011 qs78 q137 q2012 dX6_isSolved_7 rfl (by decide) (by decide) (Nat.le_of_ble_eq_true rfl) (Nat.le_refl _) (Nat.le_refl _) (aP1_v ?_) aP1_x
  refine aw_aload_n 0 dX6_isSolved_10 rfl rfl ?_
  refine aw_iconst (v := 0) dX6_isSolved_11 (by decide) ?_
  obtain ⟨q3, eq3, hf⟩ := Option.bind_eq_some_iff.mp hf
  refine aw_callV (rest := []) (C_X6_isSolution hok hl eq3) (mg_o hok) rfl rfl nX6_isSolution q2036 q2038 qs83 q137 q2039 dX6_isSolved_12 rfl (by decide) (by decide) (Nat.le_of_ble_eq_true rfl) (Nat.le_refl _) (Nat.le_refl _) (aP1_i ?_) aP1_x
  obtain ⟨z4, hf⟩ := onr_s hf
  cases hf
  exact aw_zret rfl z4 dX6_isSolved_15 aP1_rfl (Nat.le_refl _) (Nat.le_refl _)
abbrev mX6_arrangements : aM := (yX6_arrangements, cX6_arrangements, 2, some .int, [])
theorem nX6_arrangements : aNoMH yX6_arrangements 1 := by decide +kernel
def S_X6_arrangements (n : Nat) (x1 : Int32) (st : MSt) : Option (Int32 × MSt) :=
  (S_X6_loads n 0 st).bind fun q1 =>
  (S_X6_isLine x1 q1).bind fun q2 =>
  (S_X6_goes q2 1 1 q1).bind fun q3 =>
  if q3.1 = 0 then
    some (0, q3.2)
  else
    (S_X6_looks n 0 x1 q3.2).bind fun q5 =>
    some (q5.1, q5.2)
set_option maxHeartbeats 2000000 in
theorem C_X6_arrangements {l : Launch} {G : aG} {ad : Nat → Nat} {h0 : aH} (hok : mOk ad) (hl : l.stackTraces = false) {n : Nat} {x1 : Int32} {st : MSt} {r : Int32 × MSt} (hf : S_X6_arrangements n x1 st = some r) : aC l G mX6_arrangements (ws_ yX6_arrangements cX6_arrangements 2 (some .int)) 4 0 0 [.ref (ad 13), .int x1] (mh ad st h0) (aP1 (some (.int r.1)) (mh ad r.2 h0)) := by
  refine aC_of (M := mX6_arrangements) rfl (by decide) (Nat.le_of_ble_eq_true rfl) hl ?_
  rw [S_X6_arrangements] at hf
  refine aw_eqv (lv2 := [(0, .ref (ad 13)), (1, .int x1)]) rfl rfl rfl rfl ?_
  refine aw_aload_n 0 dX6_arrangements_0 rfl rfl ?_
  refine aw_iconst (v := 0) dX6_arrangements_1 (by decide) ?_
  obtain ⟨q1, eq1, hf⟩ := Option.bind_eq_some_iff.mp hf
  refine aw_callV (rest := []) (C_X6_loads hok hl eq1) (mg_o hok) rfl rfl nX6_loads q2009 q2011 qs78 q137 q2012 dX6_arrangements_2 rfl (by decide) (by decide) (Nat.le_of_ble_eq_true rfl) (Nat.le_refl _) (Nat.le_refl _) (aP1_v ?_) aP1_x
  refine aw_aload_n 0 dX6_arrangements_5 rfl rfl ?_
  refine aw_aload_n 0 dX6_arrangements_6 rfl rfl ?_
  refine aw_iload_n 1 dX6_arrangements_7 rfl rfl ?_
  obtain ⟨q2, eq2, hf⟩ := Option.bind_eq_some_iff.mp hf
  refine aw_callV (rest := [.ref (ad 13)]) (C_X6_isLine hok hl eq2) (mg_o hok) rfl rfl nX6_isLine q1954 q1956 qs72 q137 q1957 dX6_arrangements_8 rfl (by decide) (by decide) (Nat.le_of_ble_eq_true rfl) (Nat.le_refl _) (Nat.le_refl _) (aP1_i ?_) aP1_x
  refine aw_iconst (v := 1) dX6_arrangements_11 (by decide) ?_
  refine aw_iconst (v := 1) dX6_arrangements_12 (by decide) ?_
  obtain ⟨q3, eq3, hf⟩ := Option.bind_eq_some_iff.mp hf
  refine aw_callV (rest := []) (C_X6_goes hok hl eq3) (mg_o hok) rfl rfl nX6_goes q1825 q1827 qs55 q137 q1828 dX6_arrangements_13 rfl (by decide) (by decide) (Nat.le_of_ble_eq_true rfl) (Nat.le_refl _) (Nat.le_refl _) (aP1_i ?_) aP1_x
  refine aw_if_eq 28 dX6_arrangements_16 (by decide) (fun c4 => ?_) (fun c4 => ?_)
  · have hf := it_t c4 hf
    refine aw_iconst (v := 0) dX6_arrangements_28 (by decide) ?_
    cases hf
    exact aw_iret rfl dX6_arrangements_29 aP1_rfl (Nat.le_refl _) (Nat.le_refl _)
  · have hf := it_f c4 hf
    refine aw_aload_n 0 dX6_arrangements_19 rfl rfl ?_
    refine aw_iconst (v := 0) dX6_arrangements_20 (by decide) ?_
    refine aw_iload_n 1 dX6_arrangements_21 rfl rfl ?_
    obtain ⟨q5, eq5, hf⟩ := Option.bind_eq_some_iff.mp hf
    refine aw_callV (rest := []) (C_X6_looks hok hl eq5) (mg_o hok) rfl rfl nX6_looks q2017 q2019 qs80 q137 q2020 dX6_arrangements_22 rfl (by decide) (by decide) (Nat.le_of_ble_eq_true rfl) (Nat.le_refl _) (Nat.le_refl _) (aP1_i ?_) aP1_x
    refine aw_goto 29 dX6_arrangements_25 (by decide) ?_
    cases hf
    exact aw_iret rfl dX6_arrangements_29 aP1_rfl (Nat.le_refl _) (Nat.le_refl _)
