/-! the model: shallow functions and walks (printed by gen.py) -/
set_option maxRecDepth 100000
abbrev mX6_isInOrder : aM := (yX6_isInOrder, cX6_isInOrder, 3, some .boolean, [])
theorem nX6_isInOrder : aNoMH yX6_isInOrder 3 := by decide +kernel
def S_X6_isInOrder_j18 (x0 : Int32) (x1 : Int32) (xs0 : Int32) : Option (Int32) :=
  if x1 = ((x0 - (1 : Int32)) / 2) then
    if xs0 = 1 then
      some 1
    else
      some 0
  else
    if xs0 = 0 then
      some 1
    else
      some 0
set_option maxHeartbeats 2000000 in
theorem A_X6_isInOrder_j18 {l : Launch} {G : aG} {h : aH} (hl : l.stackTraces = false) {r : Int32} : ∀ (x0 : Int32) (x1 : Int32) (xs0 : Int32), S_X6_isInOrder_j18 x0 x1 xs0 = some r → AW l G mX6_isInOrder 0 0 0 (aP1 (some (.int r)) h) 18 [(0, .int x0), (1, .int x1)] [.int xs0] h 0 0 := by
  intro x0 x1 xs0 hf
  rw [S_X6_isInOrder_j18] at hf
  refine aw_iload_n 1 dX6_isInOrder_18 rfl rfl ?_
  refine aw_iload_n 0 dX6_isInOrder_19 rfl rfl ?_
  refine aw_iconst (v := 1) dX6_isInOrder_20 (by decide) ?_
  refine aw_isub dX6_isInOrder_21 ?_
  refine aw_iconst (v := 2) dX6_isInOrder_22 (by decide) ?_
  refine aw_idiv dX6_isInOrder_23 (by decide) ?_
  refine aw_icmp_ne 31 dX6_isInOrder_24 (by decide) (fun c3 => ?_) (fun c3 => ?_)
  · have hf := it_f c3 hf
    refine aw_iconst (v := 0) dX6_isInOrder_31 (by decide) ?_
    refine aw_icmp_ne 39 dX6_isInOrder_32 (by decide) (fun c4 => ?_) (fun c4 => ?_)
    · have hf := it_f c4 hf
      refine aw_iconst (v := 0) dX6_isInOrder_39 (by decide) ?_
      cases hf
      exact aw_zret rfl rfl dX6_isInOrder_40 aP1_rfl (Nat.le_refl _) (Nat.le_refl _)
    · have hf := it_t c4 hf
      refine aw_iconst (v := 1) dX6_isInOrder_35 (by decide) ?_
      refine aw_goto 40 dX6_isInOrder_36 (by decide) ?_
      cases hf
      exact aw_zret rfl rfl dX6_isInOrder_40 aP1_rfl (Nat.le_refl _) (Nat.le_refl _)
  · have hf := it_t c3 hf
    refine aw_iconst (v := 1) dX6_isInOrder_27 (by decide) ?_
    refine aw_goto 32 dX6_isInOrder_28 (by decide) ?_
    refine aw_icmp_ne 39 dX6_isInOrder_32 (by decide) (fun c5 => ?_) (fun c5 => ?_)
    · have hf := it_f c5 hf
      refine aw_iconst (v := 0) dX6_isInOrder_39 (by decide) ?_
      cases hf
      exact aw_zret rfl rfl dX6_isInOrder_40 aP1_rfl (Nat.le_refl _) (Nat.le_refl _)
    · have hf := it_t c5 hf
      refine aw_iconst (v := 1) dX6_isInOrder_35 (by decide) ?_
      refine aw_goto 40 dX6_isInOrder_36 (by decide) ?_
      cases hf
      exact aw_zret rfl rfl dX6_isInOrder_40 aP1_rfl (Nat.le_refl _) (Nat.le_refl _)
def S_X6_isInOrder (x0 : Int32) (x1 : Int32) (x2 : Int32) : Option (Int32) :=
  if x0 = 0 then
    some 1
  else
    if x2 = ((x0 + (1 : Int32)) - (x0 + (1 : Int32)) / 2 * 2) then
      S_X6_isInOrder_j18 x0 x1 1
    else
      S_X6_isInOrder_j18 x0 x1 0
set_option maxHeartbeats 2000000 in
theorem C_X6_isInOrder {l : Launch} {G : aG} {h : aH} (hl : l.stackTraces = false) {x0 : Int32} {x1 : Int32} {x2 : Int32} {r : Int32} (hf : S_X6_isInOrder x0 x1 x2 = some r) : aC l G mX6_isInOrder (ws_ yX6_isInOrder cX6_isInOrder 3 (some .boolean)) 0 0 0 [.int x0, .int x1, .int x2] h (aP1 (some (.int r)) h) := by
  refine aC_of (M := mX6_isInOrder) rfl (by decide) (Nat.le_of_ble_eq_true rfl) hl ?_
  rw [S_X6_isInOrder] at hf
  refine aw_eqv (lv2 := [(0, .int x0), (1, .int x1), (2, .int x2)]) rfl rfl rfl rfl ?_
  refine aw_iload_n 0 dX6_isInOrder_0 rfl rfl ?_
  refine aw_if_eq 35 dX6_isInOrder_1 (by decide) (fun c1 => ?_) (fun c1 => ?_)
  · have hf := it_t c1 hf
    refine aw_iconst (v := 1) dX6_isInOrder_35 (by decide) ?_
    refine aw_goto 40 dX6_isInOrder_36 (by decide) ?_
    cases hf
    exact aw_zret rfl rfl dX6_isInOrder_40 aP1_rfl (Nat.le_refl _) (Nat.le_refl _)
  · have hf := it_f c1 hf
    refine aw_iload_n 2 dX6_isInOrder_4 rfl rfl ?_
    refine aw_iload_n 0 dX6_isInOrder_5 rfl rfl ?_
    refine aw_iconst (v := 1) dX6_isInOrder_6 (by decide) ?_
    refine aw_iadd dX6_isInOrder_7 ?_
    refine aw_iconst (v := 2) dX6_isInOrder_8 (by decide) ?_
    refine aw_irem dX6_isInOrder_9 (by decide) ?_
    refine aw_icmp_ne 17 dX6_isInOrder_10 (by decide) (fun c2 => ?_) (fun c2 => ?_)
    · have hf := it_f c2 hf
      refine aw_iconst (v := 0) dX6_isInOrder_17 (by decide) ?_
      refine aw_sub [0, 1] rfl ?_
      exact A_X6_isInOrder_j18 hl x0 x1 0 hf
    · have hf := it_t c2 hf
      refine aw_iconst (v := 1) dX6_isInOrder_13 (by decide) ?_
      refine aw_goto 18 dX6_isInOrder_14 (by decide) ?_
      refine aw_sub [0, 1] rfl ?_
      exact A_X6_isInOrder_j18 hl x0 x1 1 hf
abbrev mX6_counts : aM := (yX6_counts, cX6_counts, 10, some .int, [])
theorem nX6_counts : aNoMH yX6_counts 1 := by decide +kernel
def S_X6_counts_c17 (K50 : Int32 → Int32 → Int32 → MSt → Option (Int32 × MSt)) : Nat → Int32 → Int32 → Int32 → Int32 → MSt → Option (Int32 × MSt)
  | 0, _, _, _, _, _ => none
  | n + 1, x1, x2, x3, x4, st =>
    if 16 ≤ x4 then
      K50 x1 x2 x3 st
    else
      if x4 = 0 then
        (S_X6_flag 1).bind fun q9 =>
        ob x4 16 fun j10 =>
        onm (mA st 11 j10 q9) fun u12 =>
        S_X6_counts_c17 K50 n x1 x2 x3 (x4 + 1) u12
      else
        (S_X6_flag 0).bind fun q5 =>
        ob x4 16 fun j6 =>
        onm (mA st 11 j6 q5) fun u8 =>
        S_X6_counts_c17 K50 n x1 x2 x3 (x4 + 1) u8
set_option maxHeartbeats 2000000 in
theorem A_X6_counts_c17 {l : Launch} {G : aG} {ad : Nat → Nat} {h0 : aH} (hok : mOk ad) (hl : l.stackTraces = false) {r : Int32 × MSt} {K50 : Int32 → Int32 → Int32 → MSt → Option (Int32 × MSt)} (hK50 : ∀ (w1 : Int32) (w2 : Int32) (w3 : Int32) (st : MSt), K50 w1 w2 w3 st = some r → AW l G mX6_counts 1 0 0 (aP1 (some (.int r.1)) (mh ad r.2 h0)) 50 [(0, .ref (ad 13)), (1, .int w1), (2, .int w2), (3, .int w3)] [] (mh ad st h0) 0 0) : ∀ (n : Nat) (x1 : Int32) (x2 : Int32) (x3 : Int32) (x4 : Int32) (st : MSt), S_X6_counts_c17 K50 n x1 x2 x3 x4 st = some r → AW l G mX6_counts 1 0 0 (aP1 (some (.int r.1)) (mh ad r.2 h0)) 17 [(0, .ref (ad 13)), (1, .int x1), (2, .int x2), (3, .int x3), (4, .int x4)] [] (mh ad st h0) 0 0 := by
  intro n
  induction n with
  | zero =>
    intro x1 x2 x3 x4 st hf
    rw [S_X6_counts_c17] at hf
    cases hf
  | succ n ih =>
    intro x1 x2 x3 x4 st hf
    rw [S_X6_counts_c17] at hf
    refine aw_iload 4 dX6_counts_17 rfl ?_
    refine aw_bipush (v := 16) dX6_counts_19 (by decide) ?_
    refine aw_icmp_ge 50 dX6_counts_21 (by decide) (fun c3 => ?_) (fun c3 => ?_)
    · have hf := it_t c3 hf
      refine aw_sub [0, 1, 2, 3] rfl ?_
      exact hK50 x1 x2 x3 st hf
    · have hf := it_f c3 hf
      refine aw_aload_n 0 dX6_counts_24 rfl rfl ?_
      refine aw_get (v := .ref (ad 11)) (mg_o hok) rfl in_X6 22 (by decide) q1761 (Or.inl rfl) rfl dX6_counts_25 ?_
      refine aw_iload 4 dX6_counts_28 rfl ?_
      refine aw_iload 4 dX6_counts_30 rfl ?_
      refine aw_if_ne 39 dX6_counts_32 (by decide) (fun c4 => ?_) (fun c4 => ?_)
      · have hf := it_f c4 hf
        refine aw_iconst (v := 0) dX6_counts_39 (by decide) ?_
        obtain ⟨q5, eq5, hf⟩ := Option.bind_eq_some_iff.mp hf
        refine aw_callS (rest := [.int x4, .ref (ad 11)]) (C_X6_flag hl eq5) nX6_flag q1865 q1866 q137 q1867 dX6_counts_40 rfl (by decide) (by decide) (Nat.le_of_ble_eq_true rfl) (Nat.le_refl _) (Nat.le_refl _) (aP1_i ?_) aP1_x
        obtain ⟨j6, z7, ej6, hf⟩ := ob_s hf
        refine aw_iastj (mg_11 hok) z7 ej6 (mu_11 hok) dX6_counts_43 ?_
        refine aw_st (fun u8 eu8 => ?_)
        have hf := onm_a eu8 hf
        refine aw_iinc 4 (v := x4 + 1) (lv' := [(4, .int (x4 + 1)), (0, .ref (ad 13)), (1, .int x1), (2, .int x2), (3, .int x3)]) dX6_counts_44 rfl rfl (Nat.le_of_ble_eq_true rfl) rfl ?_
        refine aw_goto 17 dX6_counts_47 (by decide) ?_
        refine aw_sub [1, 2, 3, 4, 0] rfl ?_
        exact ih x1 x2 x3 (x4 + 1) u8 hf
      · have hf := it_t c4 hf
        refine aw_iconst (v := 1) dX6_counts_35 (by decide) ?_
        refine aw_goto 40 dX6_counts_36 (by decide) ?_
        obtain ⟨q9, eq9, hf⟩ := Option.bind_eq_some_iff.mp hf
        refine aw_callS (rest := [.int x4, .ref (ad 11)]) (C_X6_flag hl eq9) nX6_flag q1865 q1866 q137 q1867 dX6_counts_40 rfl (by decide) (by decide) (Nat.le_of_ble_eq_true rfl) (Nat.le_refl _) (Nat.le_refl _) (aP1_i ?_) aP1_x
        obtain ⟨j10, z11, ej10, hf⟩ := ob_s hf
        refine aw_iastj (mg_11 hok) z11 ej10 (mu_11 hok) dX6_counts_43 ?_
        refine aw_st (fun u12 eu12 => ?_)
        have hf := onm_a eu12 hf
        refine aw_iinc 4 (v := x4 + 1) (lv' := [(4, .int (x4 + 1)), (0, .ref (ad 13)), (1, .int x1), (2, .int x2), (3, .int x3)]) dX6_counts_44 rfl rfl (Nat.le_of_ble_eq_true rfl) rfl ?_
        refine aw_goto 17 dX6_counts_47 (by decide) ?_
        refine aw_sub [1, 2, 3, 4, 0] rfl ?_
        exact ih x1 x2 x3 (x4 + 1) u12 hf
def S_X6_counts_c79 (K100 : Int32 → Int32 → Int32 → Int32 → Int32 → MSt → Option (Int32 × MSt)) : Nat → Int32 → Int32 → Int32 → Int32 → Int32 → Int32 → MSt → Option (Int32 × MSt)
  | 0, _, _, _, _, _, _, _ => none
  | n + 1, x1, x2, x3, x4, x5, x6, st =>
    if 16 ≤ x6 then
      K100 x1 x2 x3 x4 x5 st
    else
      ob x6 16 fun j21 =>
      onm (mA st 12 j21 0) fun u23 =>
      S_X6_counts_c79 K100 n x1 x2 x3 x4 x5 (x6 + 1) u23
set_option maxHeartbeats 2000000 in
theorem A_X6_counts_c79 {l : Launch} {G : aG} {ad : Nat → Nat} {h0 : aH} (hok : mOk ad) (hl : l.stackTraces = false) {r : Int32 × MSt} {K100 : Int32 → Int32 → Int32 → Int32 → Int32 → MSt → Option (Int32 × MSt)} (hK100 : ∀ (w1 : Int32) (w2 : Int32) (w3 : Int32) (w4 : Int32) (w5 : Int32) (st : MSt), K100 w1 w2 w3 w4 w5 st = some r → AW l G mX6_counts 1 0 0 (aP1 (some (.int r.1)) (mh ad r.2 h0)) 100 [(0, .ref (ad 13)), (1, .int w1), (2, .int w2), (3, .int w3), (4, .int w4), (5, .int w5)] [] (mh ad st h0) 0 0) : ∀ (n : Nat) (x1 : Int32) (x2 : Int32) (x3 : Int32) (x4 : Int32) (x5 : Int32) (x6 : Int32) (st : MSt), S_X6_counts_c79 K100 n x1 x2 x3 x4 x5 x6 st = some r → AW l G mX6_counts 1 0 0 (aP1 (some (.int r.1)) (mh ad r.2 h0)) 79 [(0, .ref (ad 13)), (1, .int x1), (2, .int x2), (3, .int x3), (4, .int x4), (5, .int x5), (6, .int x6)] [] (mh ad st h0) 0 0 := by
  intro n
  induction n with
  | zero =>
    intro x1 x2 x3 x4 x5 x6 st hf
    rw [S_X6_counts_c79] at hf
    cases hf
  | succ n ih =>
    intro x1 x2 x3 x4 x5 x6 st hf
    rw [S_X6_counts_c79] at hf
    refine aw_iload 6 dX6_counts_79 rfl ?_
    refine aw_bipush (v := 16) dX6_counts_81 (by decide) ?_
    refine aw_icmp_ge 100 dX6_counts_83 (by decide) (fun c20 => ?_) (fun c20 => ?_)
    · have hf := it_t c20 hf
      refine aw_sub [0, 1, 2, 3, 4, 5] rfl ?_
      exact hK100 x1 x2 x3 x4 x5 st hf
    · have hf := it_f c20 hf
      refine aw_aload_n 0 dX6_counts_86 rfl rfl ?_
      refine aw_get (v := .ref (ad 12)) (mg_o hok) rfl in_X6 23 (by decide) q1762 (Or.inl rfl) rfl dX6_counts_87 ?_
      refine aw_iload 6 dX6_counts_90 rfl ?_
      refine aw_iconst (v := 0) dX6_counts_92 (by decide) ?_
      obtain ⟨j21, z22, ej21, hf⟩ := ob_s hf
      refine aw_iastj (mg_12 hok) z22 ej21 (mu_12 hok) dX6_counts_93 ?_
      refine aw_st (fun u23 eu23 => ?_)
      have hf := onm_a eu23 hf
      refine aw_iinc 6 (v := x6 + 1) (lv' := [(6, .int (x6 + 1)), (0, .ref (ad 13)), (1, .int x1), (2, .int x2), (3, .int x3), (4, .int x4), (5, .int x5)]) dX6_counts_94 rfl rfl (Nat.le_of_ble_eq_true rfl) rfl ?_
      refine aw_goto 79 dX6_counts_97 (by decide) ?_
      refine aw_sub [1, 2, 3, 4, 5, 6, 0] rfl ?_
      exact ih x1 x2 x3 x4 x5 (x6 + 1) u23 hf
def S_X6_counts_j229 (K162 : Int32 → Int32 → Int32 → Int32 → Int32 → Int32 → Int32 → Int32 → MSt → Option (Int32 × MSt)) (n : Nat) (x1 : Int32) (x2 : Int32) (x3 : Int32) (x4 : Int32) (x5 : Int32) (x6 : Int32) (x7 : Int32) (x8 : Int32) (xs0 : Int32) (st : MSt) : Option (Int32 × MSt) :=
  ob (x6 ||| ((1 : Int32) <<< (x8 &&& 31))) 16 fun j38 =>
  if xs0 = 0 then
    ob (x6 ||| ((1 : Int32) <<< (x8 &&& 31))) 16 fun j41 =>
    onm (mA st 12 j41 ((st.2.1 12 j38) + (0 : Int32))) fun u43 =>
    K162 x1 x2 x3 x4 x5 x6 x7 (x8 + 1) u43
  else
    ob x6 16 fun j44 =>
    ob (x6 ||| ((1 : Int32) <<< (x8 &&& 31))) 16 fun j46 =>
    onm (mA st 12 j46 ((st.2.1 12 j38) + (st.2.1 11 j44))) fun u48 =>
    K162 x1 x2 x3 x4 x5 x6 x7 (x8 + 1) u48
set_option maxHeartbeats 2000000 in
theorem A_X6_counts_j229 {l : Launch} {G : aG} {ad : Nat → Nat} {h0 : aH} (hok : mOk ad) (hl : l.stackTraces = false) {r : Int32 × MSt} {K162 : Int32 → Int32 → Int32 → Int32 → Int32 → Int32 → Int32 → Int32 → MSt → Option (Int32 × MSt)} (hK162 : ∀ (w1 : Int32) (w2 : Int32) (w3 : Int32) (w4 : Int32) (w5 : Int32) (w6 : Int32) (w7 : Int32) (w8 : Int32) (st : MSt), K162 w1 w2 w3 w4 w5 w6 w7 w8 st = some r → AW l G mX6_counts 1 0 0 (aP1 (some (.int r.1)) (mh ad r.2 h0)) 162 [(0, .ref (ad 13)), (1, .int w1), (2, .int w2), (3, .int w3), (4, .int w4), (5, .int w5), (6, .int w6), (7, .int w7), (8, .int w8)] [] (mh ad st h0) 0 0) : ∀ (n : Nat) (x1 : Int32) (x2 : Int32) (x3 : Int32) (x4 : Int32) (x5 : Int32) (x6 : Int32) (x7 : Int32) (x8 : Int32) (xs0 : Int32) (st : MSt), S_X6_counts_j229 K162 n x1 x2 x3 x4 x5 x6 x7 x8 xs0 st = some r → AW l G mX6_counts 1 0 0 (aP1 (some (.int r.1)) (mh ad r.2 h0)) 229 [(0, .ref (ad 13)), (1, .int x1), (2, .int x2), (3, .int x3), (4, .int x4), (5, .int x5), (6, .int x6), (7, .int x7), (8, .int x8)] [.int xs0] (mh ad st h0) 0 0 := by
  intro n x1 x2 x3 x4 x5 x6 x7 x8 xs0 st hf
  rw [S_X6_counts_j229] at hf
  refine aw_istore (lv' := [(9, .int xs0), (0, .ref (ad 13)), (1, .int x1), (2, .int x2), (3, .int x3), (4, .int x4), (5, .int x5), (6, .int x6), (7, .int x7), (8, .int x8)]) dX6_counts_229 (Nat.le_of_ble_eq_true rfl) rfl ?_
  refine aw_aload_n 1 dX6_counts_231 rfl rfl ?_
  refine aw_get (v := .ref (ad 12)) (mg_o hok) rfl in_X6 23 (by decide) q1762 (Or.inl rfl) rfl dX6_counts_232 ?_
  refine aw_iload 7 dX6_counts_235 rfl ?_
  refine aw_iconst (v := 1) dX6_counts_237 (by decide) ?_
  refine aw_iload 9 dX6_counts_238 rfl ?_
  refine aw_ishl dX6_counts_240 ?_
  refine aw_ior dX6_counts_241 ?_
  refine aw_dup2_11 dX6_counts_242 rfl rfl ?_
  obtain ⟨j38, z39, ej38, hf⟩ := ob_s hf
  refine aw_ialdj (mg_12 hok) z39 ej38 dX6_counts_243 ?_
  refine aw_iload 0 dX6_counts_244 rfl ?_
  refine aw_if_eq 259 dX6_counts_246 (by decide) (fun c40 => ?_) (fun c40 => ?_)
  · have hf := it_t c40 hf
    refine aw_iconst (v := 0) dX6_counts_259 (by decide) ?_
    refine aw_iadd dX6_counts_260 ?_
    obtain ⟨j41, z42, ej41, hf⟩ := ob_s hf
    refine aw_iastj (mg_12 hok) z42 ej41 (mu_12 hok) dX6_counts_261 ?_
    refine aw_st (fun u43 eu43 => ?_)
    have hf := onm_a eu43 hf
    refine aw_iinc 9 (v := x8 + 1) (lv' := [(8, .int (x8 + 1)), (9, .int xs0), (0, .ref (ad 13)), (1, .int x1), (2, .int x2), (3, .int x3), (4, .int x4), (5, .int x5), (6, .int x6), (7, .int x7)]) dX6_counts_262 rfl rfl (Nat.le_of_ble_eq_true rfl) rfl ?_
    refine aw_goto 162 dX6_counts_265 (by decide) ?_
    refine aw_sub [2, 3, 4, 5, 6, 7, 8, 9, 0] rfl ?_
    exact hK162 x1 x2 x3 x4 x5 x6 x7 (x8 + 1) u43 hf
  · have hf := it_f c40 hf
    refine aw_aload_n 1 dX6_counts_249 rfl rfl ?_
    refine aw_get (v := .ref (ad 11)) (mg_o hok) rfl in_X6 22 (by decide) q1761 (Or.inl rfl) rfl dX6_counts_250 ?_
    refine aw_iload 7 dX6_counts_253 rfl ?_
    obtain ⟨j44, z45, ej44, hf⟩ := ob_s hf
    refine aw_ialdj (mg_11 hok) z45 ej44 dX6_counts_255 ?_
    refine aw_goto 260 dX6_counts_256 (by decide) ?_
    refine aw_iadd dX6_counts_260 ?_
    obtain ⟨j46, z47, ej46, hf⟩ := ob_s hf
    refine aw_iastj (mg_12 hok) z47 ej46 (mu_12 hok) dX6_counts_261 ?_
    refine aw_st (fun u48 eu48 => ?_)
    have hf := onm_a eu48 hf
    refine aw_iinc 9 (v := x8 + 1) (lv' := [(8, .int (x8 + 1)), (9, .int xs0), (0, .ref (ad 13)), (1, .int x1), (2, .int x2), (3, .int x3), (4, .int x4), (5, .int x5), (6, .int x6), (7, .int x7)]) dX6_counts_262 rfl rfl (Nat.le_of_ble_eq_true rfl) rfl ?_
    refine aw_goto 162 dX6_counts_265 (by decide) ?_
    refine aw_sub [2, 3, 4, 5, 6, 7, 8, 9, 0] rfl ?_
    exact hK162 x1 x2 x3 x4 x5 x6 x7 (x8 + 1) u48 hf
def S_X6_counts_c162 (K268 : Int32 → Int32 → Int32 → Int32 → Int32 → Int32 → MSt → Option (Int32 × MSt)) : Nat → Int32 → Int32 → Int32 → Int32 → Int32 → Int32 → Int32 → Int32 → MSt → Option (Int32 × MSt)
  | 0, _, _, _, _, _, _, _, _, _ => none
  | n + 1, x1, x2, x3, x4, x5, x6, x7, x8, st =>
    if x3 ≤ x8 then
      K268 x1 x2 x3 x4 x5 x6 st
    else
      (S_X6_has x5 x8).bind fun q36 =>
      if q36 = 0 then
        S_X6_counts_j229 (S_X6_counts_c162 K268 n) n x1 x2 x3 x4 x5 x6 x7 x8 0 st
      else
        (S_X6_has x6 x8).bind fun q38 =>
        if q38 = 0 then
          (S_X6_tellingOf x1 0 st).bind fun q40 =>
          (S_X6_isInOrder q40 x8 x7).bind fun q41 =>
          if q41 = 0 then
            S_X6_counts_j229 (S_X6_counts_c162 K268 n) n x1 x2 x3 x4 x5 x6 x7 x8 0 st
          else
            (S_X6_tellingOf x1 1 st).bind fun q43 =>
            (S_X6_isInOrder q43 x8 ((x3 - (1 : Int32)) - x7)).bind fun q44 =>
            if q44 = 0 then
              S_X6_counts_j229 (S_X6_counts_c162 K268 n) n x1 x2 x3 x4 x5 x6 x7 x8 0 st
            else
              S_X6_counts_j229 (S_X6_counts_c162 K268 n) n x1 x2 x3 x4 x5 x6 x7 x8 1 st
        else
          S_X6_counts_j229 (S_X6_counts_c162 K268 n) n x1 x2 x3 x4 x5 x6 x7 x8 0 st
set_option maxHeartbeats 2000000 in
theorem A_X6_counts_c162 {l : Launch} {G : aG} {ad : Nat → Nat} {h0 : aH} (hok : mOk ad) (hl : l.stackTraces = false) {r : Int32 × MSt} {K268 : Int32 → Int32 → Int32 → Int32 → Int32 → Int32 → MSt → Option (Int32 × MSt)} (hK268 : ∀ (w1 : Int32) (w2 : Int32) (w3 : Int32) (w4 : Int32) (w5 : Int32) (w6 : Int32) (st : MSt), K268 w1 w2 w3 w4 w5 w6 st = some r → AW l G mX6_counts 1 0 0 (aP1 (some (.int r.1)) (mh ad r.2 h0)) 268 [(0, .ref (ad 13)), (1, .int w1), (2, .int w2), (3, .int w3), (4, .int w4), (5, .int w5), (6, .int w6)] [] (mh ad st h0) 0 0) : ∀ (n : Nat) (x1 : Int32) (x2 : Int32) (x3 : Int32) (x4 : Int32) (x5 : Int32) (x6 : Int32) (x7 : Int32) (x8 : Int32) (st : MSt), S_X6_counts_c162 K268 n x1 x2 x3 x4 x5 x6 x7 x8 st = some r → AW l G mX6_counts 1 0 0 (aP1 (some (.int r.1)) (mh ad r.2 h0)) 162 [(0, .ref (ad 13)), (1, .int x1), (2, .int x2), (3, .int x3), (4, .int x4), (5, .int x5), (6, .int x6), (7, .int x7), (8, .int x8)] [] (mh ad st h0) 0 0 := by
  intro n
  induction n with
  | zero =>
    intro x1 x2 x3 x4 x5 x6 x7 x8 st hf
    rw [S_X6_counts_c162] at hf
    cases hf
  | succ n ih =>
    intro x1 x2 x3 x4 x5 x6 x7 x8 st hf
    rw [S_X6_counts_c162] at hf
    refine aw_iload 8 dX6_counts_162 rfl ?_
    refine aw_iload_n 3 dX6_counts_164 rfl rfl ?_
    refine aw_icmp_ge 268 dX6_counts_165 (by decide) (fun c35 => ?_) (fun c35 => ?_)
    · have hf := it_t c35 hf
      refine aw_sub [0, 1, 2, 3, 4, 5, 6] rfl ?_
      exact hK268 x1 x2 x3 x4 x5 x6 st hf
    · have hf := it_f c35 hf
      refine aw_iload 5 dX6_counts_168 rfl ?_
      refine aw_iload 8 dX6_counts_170 rfl ?_
      obtain ⟨q36, eq36, hf⟩ := Option.bind_eq_some_iff.mp hf
      refine aw_callS (rest := []) (C_X6_has hl eq36) nX6_has q1903 q1904 q137 q1905 dX6_counts_172 rfl (by decide) (by decide) (Nat.le_of_ble_eq_true rfl) (Nat.le_refl _) (Nat.le_refl _) (aP1_i ?_) aP1_x
      refine aw_if_eq 228 dX6_counts_175 (by decide) (fun c37 => ?_) (fun c37 => ?_)
      · have hf := it_t c37 hf
        refine aw_iconst (v := 0) dX6_counts_228 (by decide) ?_
        exact A_X6_counts_j229 hok hl (fun w1 w2 w3 w4 w5 w6 w7 w8 wst hf => ih w1 w2 w3 w4 w5 w6 w7 w8 wst hf) n x1 x2 x3 x4 x5 x6 x7 x8 0 st hf
      · have hf := it_f c37 hf
        refine aw_iload 6 dX6_counts_178 rfl ?_
        refine aw_iload 8 dX6_counts_180 rfl ?_
        obtain ⟨q38, eq38, hf⟩ := Option.bind_eq_some_iff.mp hf
        refine aw_callS (rest := []) (C_X6_has hl eq38) nX6_has q1903 q1904 q137 q1905 dX6_counts_182 rfl (by decide) (by decide) (Nat.le_of_ble_eq_true rfl) (Nat.le_refl _) (Nat.le_refl _) (aP1_i ?_) aP1_x
        refine aw_if_ne 228 dX6_counts_185 (by decide) (fun c39 => ?_) (fun c39 => ?_)
        · have hf := it_f c39 hf
          refine aw_iconst (v := 0) dX6_counts_228 (by decide) ?_
          exact A_X6_counts_j229 hok hl (fun w1 w2 w3 w4 w5 w6 w7 w8 wst hf => ih w1 w2 w3 w4 w5 w6 w7 w8 wst hf) n x1 x2 x3 x4 x5 x6 x7 x8 0 st hf
        · have hf := it_t c39 hf
          refine aw_aload_n 0 dX6_counts_188 rfl rfl ?_
          refine aw_iload_n 1 dX6_counts_189 rfl rfl ?_
          refine aw_iconst (v := 0) dX6_counts_190 (by decide) ?_
          obtain ⟨q40, eq40, hf⟩ := Option.bind_eq_some_iff.mp hf
          refine aw_callV (rest := []) (C_X6_tellingOf hok hl eq40) (mg_o hok) rfl rfl nX6_tellingOf q2025 q2027 qs82 q137 q2028 dX6_counts_191 rfl (by decide) (by decide) (Nat.le_of_ble_eq_true rfl) (Nat.le_refl _) (Nat.le_refl _) (aP1_i ?_) aP1_x
          refine aw_iload 8 dX6_counts_194 rfl ?_
          refine aw_iload 7 dX6_counts_196 rfl ?_
          obtain ⟨q41, eq41, hf⟩ := Option.bind_eq_some_iff.mp hf
          refine aw_callS (rest := []) (C_X6_isInOrder hl eq41) nX6_isInOrder q2052 q2053 q137 q2054 dX6_counts_198 rfl (by decide) (by decide) (Nat.le_of_ble_eq_true rfl) (Nat.le_refl _) (Nat.le_refl _) (aP1_i ?_) aP1_x
          refine aw_if_eq 228 dX6_counts_201 (by decide) (fun c42 => ?_) (fun c42 => ?_)
          · have hf := it_t c42 hf
            refine aw_iconst (v := 0) dX6_counts_228 (by decide) ?_
            exact A_X6_counts_j229 hok hl (fun w1 w2 w3 w4 w5 w6 w7 w8 wst hf => ih w1 w2 w3 w4 w5 w6 w7 w8 wst hf) n x1 x2 x3 x4 x5 x6 x7 x8 0 st hf
          · have hf := it_f c42 hf
            refine aw_aload_n 0 dX6_counts_204 rfl rfl ?_
            refine aw_iload_n 1 dX6_counts_205 rfl rfl ?_
            refine aw_iconst (v := 1) dX6_counts_206 (by decide) ?_
            obtain ⟨q43, eq43, hf⟩ := Option.bind_eq_some_iff.mp hf
            refine aw_callV (rest := []) (C_X6_tellingOf hok hl eq43) (mg_o hok) rfl rfl nX6_tellingOf q2025 q2027 qs82 q137 q2028 dX6_counts_207 rfl (by decide) (by decide) (Nat.le_of_ble_eq_true rfl) (Nat.le_refl _) (Nat.le_refl _) (aP1_i ?_) aP1_x
            refine aw_iload 8 dX6_counts_210 rfl ?_
            refine aw_iload_n 3 dX6_counts_212 rfl rfl ?_
            refine aw_iconst (v := 1) dX6_counts_213 (by decide) ?_
            refine aw_isub dX6_counts_214 ?_
            refine aw_iload 7 dX6_counts_215 rfl ?_
            refine aw_isub dX6_counts_217 ?_
            obtain ⟨q44, eq44, hf⟩ := Option.bind_eq_some_iff.mp hf
            refine aw_callS (rest := []) (C_X6_isInOrder hl eq44) nX6_isInOrder q2052 q2053 q137 q2054 dX6_counts_218 rfl (by decide) (by decide) (Nat.le_of_ble_eq_true rfl) (Nat.le_refl _) (Nat.le_refl _) (aP1_i ?_) aP1_x
            refine aw_if_eq 228 dX6_counts_221 (by decide) (fun c45 => ?_) (fun c45 => ?_)
            · have hf := it_t c45 hf
              refine aw_iconst (v := 0) dX6_counts_228 (by decide) ?_
              exact A_X6_counts_j229 hok hl (fun w1 w2 w3 w4 w5 w6 w7 w8 wst hf => ih w1 w2 w3 w4 w5 w6 w7 w8 wst hf) n x1 x2 x3 x4 x5 x6 x7 x8 0 st hf
            · have hf := it_f c45 hf
              refine aw_iconst (v := 1) dX6_counts_224 (by decide) ?_
              refine aw_goto 229 dX6_counts_225 (by decide) ?_
              exact A_X6_counts_j229 hok hl (fun w1 w2 w3 w4 w5 w6 w7 w8 wst hf => ih w1 w2 w3 w4 w5 w6 w7 w8 wst hf) n x1 x2 x3 x4 x5 x6 x7 x8 1 st hf
def S_X6_counts_c103 (K274 : Int32 → Int32 → Int32 → Int32 → MSt → Option (Int32 × MSt)) : Nat → Int32 → Int32 → Int32 → Int32 → Int32 → Int32 → MSt → Option (Int32 × MSt)
  | 0, _, _, _, _, _, _, _ => none
  | n + 1, x1, x2, x3, x4, x5, x6, st =>
    if ((1 : Int32) <<< (x3 &&& 31)) ≤ x6 then
      K274 x1 x2 x3 x4 st
    else
      (S_X6_many n x6).bind fun q27 =>
      ob x6 16 fun j28 =>
      (S_X6_has x5 x3).bind fun q30 =>
      if q30 = 0 then
        ob x6 16 fun j32 =>
        onm (mA st 12 j32 ((st.2.1 12 j28) + (0 : Int32))) fun u34 =>
        S_X6_counts_c162
          (fun y35_1 y35_2 y35_3 y35_4 y35_5 y35_6 u36 => 
              S_X6_counts_c103 K274 n y35_1 y35_2 y35_3 y35_4 y35_5 (y35_6 + 1) u36)
           n x1 x2 x3 x4 x5 x6 q27 0 u34
      else
        if (x2 - x3) ≤ (x4 - q27) then
          ob x6 16 fun j38 =>
          onm (mA st 12 j38 ((st.2.1 12 j28) + (0 : Int32))) fun u40 =>
          S_X6_counts_c162
            (fun y41_1 y41_2 y41_3 y41_4 y41_5 y41_6 u42 => 
                S_X6_counts_c103 K274 n y41_1 y41_2 y41_3 y41_4 y41_5 (y41_6 + 1) u42)
             n x1 x2 x3 x4 x5 x6 q27 0 u40
        else
          ob x6 16 fun j43 =>
          ob x6 16 fun j45 =>
          onm (mA st 12 j45 ((st.2.1 12 j28) + (st.2.1 11 j43))) fun u47 =>
          S_X6_counts_c162
            (fun y48_1 y48_2 y48_3 y48_4 y48_5 y48_6 u49 => 
                S_X6_counts_c103 K274 n y48_1 y48_2 y48_3 y48_4 y48_5 (y48_6 + 1) u49)
             n x1 x2 x3 x4 x5 x6 q27 0 u47
set_option maxHeartbeats 2000000 in
theorem A_X6_counts_c103 {l : Launch} {G : aG} {ad : Nat → Nat} {h0 : aH} (hok : mOk ad) (hl : l.stackTraces = false) {r : Int32 × MSt} {K274 : Int32 → Int32 → Int32 → Int32 → MSt → Option (Int32 × MSt)} (hK274 : ∀ (w1 : Int32) (w2 : Int32) (w3 : Int32) (w4 : Int32) (st : MSt), K274 w1 w2 w3 w4 st = some r → AW l G mX6_counts 1 0 0 (aP1 (some (.int r.1)) (mh ad r.2 h0)) 274 [(0, .ref (ad 13)), (1, .int w1), (2, .int w2), (3, .int w3), (4, .int w4)] [] (mh ad st h0) 0 0) : ∀ (n : Nat) (x1 : Int32) (x2 : Int32) (x3 : Int32) (x4 : Int32) (x5 : Int32) (x6 : Int32) (st : MSt), S_X6_counts_c103 K274 n x1 x2 x3 x4 x5 x6 st = some r → AW l G mX6_counts 1 0 0 (aP1 (some (.int r.1)) (mh ad r.2 h0)) 103 [(0, .ref (ad 13)), (1, .int x1), (2, .int x2), (3, .int x3), (4, .int x4), (5, .int x5), (6, .int x6)] [] (mh ad st h0) 0 0 := by
  intro n
  induction n with
  | zero =>
    intro x1 x2 x3 x4 x5 x6 st hf
    rw [S_X6_counts_c103] at hf
    cases hf
  | succ n ih =>
    intro x1 x2 x3 x4 x5 x6 st hf
    rw [S_X6_counts_c103] at hf
    refine aw_iload 6 dX6_counts_103 rfl ?_
    refine aw_iconst (v := 1) dX6_counts_105 (by decide) ?_
    refine aw_iload_n 3 dX6_counts_106 rfl rfl ?_
    refine aw_ishl dX6_counts_107 ?_
    refine aw_icmp_ge 274 dX6_counts_108 (by decide) (fun c26 => ?_) (fun c26 => ?_)
    · have hf := it_t c26 hf
      refine aw_sub [0, 1, 2, 3, 4] rfl ?_
      exact hK274 x1 x2 x3 x4 st hf
    · have hf := it_f c26 hf
      refine aw_iload 6 dX6_counts_111 rfl ?_
      obtain ⟨q27, eq27, hf⟩ := Option.bind_eq_some_iff.mp hf
      refine aw_callS (rest := []) (C_X6_many hl eq27) nX6_many q1998 q1999 q137 q2000 dX6_counts_113 rfl (by decide) (by decide) (Nat.le_of_ble_eq_true rfl) (Nat.le_refl _) (Nat.le_refl _) (aP1_i ?_) aP1_x
      refine aw_istore (lv' := [(7, .int q27), (0, .ref (ad 13)), (1, .int x1), (2, .int x2), (3, .int x3), (4, .int x4), (5, .int x5), (6, .int x6)]) dX6_counts_116 (Nat.le_of_ble_eq_true rfl) rfl ?_
      refine aw_aload_n 1 dX6_counts_118 rfl rfl ?_
      refine aw_get (v := .ref (ad 12)) (mg_o hok) rfl in_X6 23 (by decide) q1762 (Or.inl rfl) rfl dX6_counts_119 ?_
      refine aw_iload 7 dX6_counts_122 rfl ?_
      refine aw_dup2_11 dX6_counts_124 rfl rfl ?_
      obtain ⟨j28, z29, ej28, hf⟩ := ob_s hf
      refine aw_ialdj (mg_12 hok) z29 ej28 dX6_counts_125 ?_
      refine aw_iload 6 dX6_counts_126 rfl ?_
      refine aw_iload_n 4 dX6_counts_128 rfl rfl ?_
      obtain ⟨q30, eq30, hf⟩ := Option.bind_eq_some_iff.mp hf
      refine aw_callS (rest := [.int (st.2.1 12 j28), .int x6, .ref (ad 12)]) (C_X6_has hl eq30) nX6_has q1903 q1904 q137 q1905 dX6_counts_129 rfl (by decide) (by decide) (Nat.le_of_ble_eq_true rfl) (Nat.le_refl _) (Nat.le_refl _) (aP1_i ?_) aP1_x
      refine aw_if_eq 156 dX6_counts_132 (by decide) (fun c31 => ?_) (fun c31 => ?_)
      · have hf := it_t c31 hf
        refine aw_iconst (v := 0) dX6_counts_156 (by decide) ?_
        refine aw_iadd dX6_counts_157 ?_
        obtain ⟨j32, z33, ej32, hf⟩ := ob_s hf
        refine aw_iastj (mg_12 hok) z33 ej32 (mu_12 hok) dX6_counts_158 ?_
        refine aw_st (fun u34 eu34 => ?_)
        have hf := onm_a eu34 hf
        refine aw_iconst (v := 0) dX6_counts_159 (by decide) ?_
        refine aw_istore (lv' := [(8, .int 0), (7, .int q27), (0, .ref (ad 13)), (1, .int x1), (2, .int x2), (3, .int x3), (4, .int x4), (5, .int x5), (6, .int x6)]) dX6_counts_160 (Nat.le_of_ble_eq_true rfl) rfl ?_
        refine aw_sub [2, 3, 4, 5, 6, 7, 8, 1, 0] rfl ?_
        refine A_X6_counts_c162 hok hl ?_ n x1 x2 x3 x4 x5 x6 q27 0 u34 hf
        · intro y35_1 y35_2 y35_3 y35_4 y35_5 y35_6 u36 hf
          refine aw_iinc 6 (v := y35_6 + 1) (lv' := [(6, .int (y35_6 + 1)), (0, .ref (ad 13)), (1, .int y35_1), (2, .int y35_2), (3, .int y35_3), (4, .int y35_4), (5, .int y35_5)]) dX6_counts_268 rfl rfl (Nat.le_of_ble_eq_true rfl) rfl ?_
          refine aw_goto 103 dX6_counts_271 (by decide) ?_
          refine aw_sub [1, 2, 3, 4, 5, 6, 0] rfl ?_
          exact ih y35_1 y35_2 y35_3 y35_4 y35_5 (y35_6 + 1) u36 hf
      · have hf := it_f c31 hf
        refine aw_iload 5 dX6_counts_135 rfl ?_
        refine aw_iload 0 dX6_counts_137 rfl ?_
        refine aw_isub dX6_counts_139 ?_
        refine aw_iload_n 3 dX6_counts_140 rfl rfl ?_
        refine aw_iload_n 4 dX6_counts_141 rfl rfl ?_
        refine aw_isub dX6_counts_142 ?_
        refine aw_icmp_ge 156 dX6_counts_143 (by decide) (fun c37 => ?_) (fun c37 => ?_)
        · have hf := it_t c37 hf
          refine aw_iconst (v := 0) dX6_counts_156 (by decide) ?_
          refine aw_iadd dX6_counts_157 ?_
          obtain ⟨j38, z39, ej38, hf⟩ := ob_s hf
          refine aw_iastj (mg_12 hok) z39 ej38 (mu_12 hok) dX6_counts_158 ?_
          refine aw_st (fun u40 eu40 => ?_)
          have hf := onm_a eu40 hf
          refine aw_iconst (v := 0) dX6_counts_159 (by decide) ?_
          refine aw_istore (lv' := [(8, .int 0), (7, .int q27), (0, .ref (ad 13)), (1, .int x1), (2, .int x2), (3, .int x3), (4, .int x4), (5, .int x5), (6, .int x6)]) dX6_counts_160 (Nat.le_of_ble_eq_true rfl) rfl ?_
          refine aw_sub [2, 3, 4, 5, 6, 7, 8, 1, 0] rfl ?_
          refine A_X6_counts_c162 hok hl ?_ n x1 x2 x3 x4 x5 x6 q27 0 u40 hf
          · intro y41_1 y41_2 y41_3 y41_4 y41_5 y41_6 u42 hf
            refine aw_iinc 6 (v := y41_6 + 1) (lv' := [(6, .int (y41_6 + 1)), (0, .ref (ad 13)), (1, .int y41_1), (2, .int y41_2), (3, .int y41_3), (4, .int y41_4), (5, .int y41_5)]) dX6_counts_268 rfl rfl (Nat.le_of_ble_eq_true rfl) rfl ?_
            refine aw_goto 103 dX6_counts_271 (by decide) ?_
            refine aw_sub [1, 2, 3, 4, 5, 6, 0] rfl ?_
            exact ih y41_1 y41_2 y41_3 y41_4 y41_5 (y41_6 + 1) u42 hf
        · have hf := it_f c37 hf
          refine aw_aload_n 1 dX6_counts_146 rfl rfl ?_
          refine aw_get (v := .ref (ad 11)) (mg_o hok) rfl in_X6 22 (by decide) q1761 (Or.inl rfl) rfl dX6_counts_147 ?_
          refine aw_iload 7 dX6_counts_150 rfl ?_
          obtain ⟨j43, z44, ej43, hf⟩ := ob_s hf
          refine aw_ialdj (mg_11 hok) z44 ej43 dX6_counts_152 ?_
          refine aw_goto 157 dX6_counts_153 (by decide) ?_
          refine aw_iadd dX6_counts_157 ?_
          obtain ⟨j45, z46, ej45, hf⟩ := ob_s hf
          refine aw_iastj (mg_12 hok) z46 ej45 (mu_12 hok) dX6_counts_158 ?_
          refine aw_st (fun u47 eu47 => ?_)
          have hf := onm_a eu47 hf
          refine aw_iconst (v := 0) dX6_counts_159 (by decide) ?_
          refine aw_istore (lv' := [(8, .int 0), (7, .int q27), (0, .ref (ad 13)), (1, .int x1), (2, .int x2), (3, .int x3), (4, .int x4), (5, .int x5), (6, .int x6)]) dX6_counts_160 (Nat.le_of_ble_eq_true rfl) rfl ?_
          refine aw_sub [2, 3, 4, 5, 6, 7, 8, 1, 0] rfl ?_
          refine A_X6_counts_c162 hok hl ?_ n x1 x2 x3 x4 x5 x6 q27 0 u47 hf
          · intro y48_1 y48_2 y48_3 y48_4 y48_5 y48_6 u49 hf
            refine aw_iinc 6 (v := y48_6 + 1) (lv' := [(6, .int (y48_6 + 1)), (0, .ref (ad 13)), (1, .int y48_1), (2, .int y48_2), (3, .int y48_3), (4, .int y48_4), (5, .int y48_5)]) dX6_counts_268 rfl rfl (Nat.le_of_ble_eq_true rfl) rfl ?_
            refine aw_goto 103 dX6_counts_271 (by decide) ?_
            refine aw_sub [1, 2, 3, 4, 5, 6, 0] rfl ?_
            exact ih y48_1 y48_2 y48_3 y48_4 y48_5 (y48_6 + 1) u49 hf
def S_X6_counts_c277 (K304 : Int32 → Int32 → Int32 → Int32 → MSt → Option (Int32 × MSt)) : Nat → Int32 → Int32 → Int32 → Int32 → Int32 → MSt → Option (Int32 × MSt)
  | 0, _, _, _, _, _, _ => none
  | n + 1, x1, x2, x3, x4, x6, st =>
    if 16 ≤ x6 then
      K304 x1 x2 x3 x4 st
    else
      ob x6 16 fun j53 =>
      ob x6 16 fun j55 =>
      onm (mA st 11 j55 (st.2.1 12 j53)) fun u57 =>
      S_X6_counts_c277 K304 n x1 x2 x3 x4 (x6 + 1) u57
set_option maxHeartbeats 2000000 in
theorem A_X6_counts_c277 {l : Launch} {G : aG} {ad : Nat → Nat} {h0 : aH} (hok : mOk ad) (hl : l.stackTraces = false) {r : Int32 × MSt} {K304 : Int32 → Int32 → Int32 → Int32 → MSt → Option (Int32 × MSt)} (hK304 : ∀ (w1 : Int32) (w2 : Int32) (w3 : Int32) (w4 : Int32) (st : MSt), K304 w1 w2 w3 w4 st = some r → AW l G mX6_counts 1 0 0 (aP1 (some (.int r.1)) (mh ad r.2 h0)) 304 [(0, .ref (ad 13)), (1, .int w1), (2, .int w2), (3, .int w3), (4, .int w4)] [] (mh ad st h0) 0 0) : ∀ (n : Nat) (x1 : Int32) (x2 : Int32) (x3 : Int32) (x4 : Int32) (x6 : Int32) (st : MSt), S_X6_counts_c277 K304 n x1 x2 x3 x4 x6 st = some r → AW l G mX6_counts 1 0 0 (aP1 (some (.int r.1)) (mh ad r.2 h0)) 277 [(0, .ref (ad 13)), (1, .int x1), (2, .int x2), (3, .int x3), (4, .int x4), (6, .int x6)] [] (mh ad st h0) 0 0 := by
  intro n
  induction n with
  | zero =>
    intro x1 x2 x3 x4 x6 st hf
    rw [S_X6_counts_c277] at hf
    cases hf
  | succ n ih =>
    intro x1 x2 x3 x4 x6 st hf
    rw [S_X6_counts_c277] at hf
    refine aw_iload 5 dX6_counts_277 rfl ?_
    refine aw_bipush (v := 16) dX6_counts_279 (by decide) ?_
    refine aw_icmp_ge 304 dX6_counts_281 (by decide) (fun c52 => ?_) (fun c52 => ?_)
    · have hf := it_t c52 hf
      refine aw_sub [0, 1, 2, 3, 4] rfl ?_
      exact hK304 x1 x2 x3 x4 st hf
    · have hf := it_f c52 hf
      refine aw_aload_n 0 dX6_counts_284 rfl rfl ?_
      refine aw_get (v := .ref (ad 11)) (mg_o hok) rfl in_X6 22 (by decide) q1761 (Or.inl rfl) rfl dX6_counts_285 ?_
      refine aw_iload 5 dX6_counts_288 rfl ?_
      refine aw_aload_n 0 dX6_counts_290 rfl rfl ?_
      refine aw_get (v := .ref (ad 12)) (mg_o hok) rfl in_X6 23 (by decide) q1762 (Or.inl rfl) rfl dX6_counts_291 ?_
      refine aw_iload 5 dX6_counts_294 rfl ?_
      obtain ⟨j53, z54, ej53, hf⟩ := ob_s hf
      refine aw_ialdj (mg_12 hok) z54 ej53 dX6_counts_296 ?_
      obtain ⟨j55, z56, ej55, hf⟩ := ob_s hf
      refine aw_iastj (mg_11 hok) z56 ej55 (mu_11 hok) dX6_counts_297 ?_
      refine aw_st (fun u57 eu57 => ?_)
      have hf := onm_a eu57 hf
      refine aw_iinc 5 (v := x6 + 1) (lv' := [(6, .int (x6 + 1)), (0, .ref (ad 13)), (1, .int x1), (2, .int x2), (3, .int x3), (4, .int x4)]) dX6_counts_298 rfl rfl (Nat.le_of_ble_eq_true rfl) rfl ?_
      refine aw_goto 277 dX6_counts_301 (by decide) ?_
      refine aw_sub [1, 2, 3, 4, 5, 0] rfl ?_
      exact ih x1 x2 x3 x4 (x6 + 1) u57 hf
def S_X6_counts_c53 (K310 : Int32 → MSt → Option (Int32 × MSt)) : Nat → Int32 → Int32 → Int32 → Int32 → MSt → Option (Int32 × MSt)
  | 0, _, _, _, _, _ => none
  | n + 1, x1, x2, x3, x4, st =>
    if x2 ≤ x4 then
      K310 x3 st
    else
      (S_X6_cellAt x1 x4 st).bind fun q16 =>
      ob ((23 : Int32) + q16) 432 fun j17 =>
      onm (st.2.1 0 j17) fun v19 =>
      S_X6_counts_c79
        (fun y20_1 y20_2 y20_3 y20_4 y20_5 u21 => 
            S_X6_counts_c103
              (fun y22_1 y22_2 y22_3 y22_4 u23 => 
                  S_X6_counts_c277
                    (fun y24_1 y24_2 y24_3 y24_4 u25 => 
                        S_X6_counts_c53 K310 n y24_1 y24_2 y24_3 (y24_4 + 1) u25)
                     n y22_1 y22_2 y22_3 y22_4 0 u23)
               n y20_1 y20_2 y20_3 y20_4 y20_5 0 u21)
         n x1 x2 x3 x4 v19 0 st
set_option maxHeartbeats 2000000 in
theorem A_X6_counts_c53 {l : Launch} {G : aG} {ad : Nat → Nat} {h0 : aH} (hok : mOk ad) (hl : l.stackTraces = false) {r : Int32 × MSt} {K310 : Int32 → MSt → Option (Int32 × MSt)} (hK310 : ∀ (w3 : Int32) (st : MSt), K310 w3 st = some r → AW l G mX6_counts 1 0 0 (aP1 (some (.int r.1)) (mh ad r.2 h0)) 310 [(0, .ref (ad 13)), (3, .int w3)] [] (mh ad st h0) 0 0) : ∀ (n : Nat) (x1 : Int32) (x2 : Int32) (x3 : Int32) (x4 : Int32) (st : MSt), S_X6_counts_c53 K310 n x1 x2 x3 x4 st = some r → AW l G mX6_counts 1 0 0 (aP1 (some (.int r.1)) (mh ad r.2 h0)) 53 [(0, .ref (ad 13)), (1, .int x1), (2, .int x2), (3, .int x3), (4, .int x4)] [] (mh ad st h0) 0 0 := by
  intro n
  induction n with
  | zero =>
    intro x1 x2 x3 x4 st hf
    rw [S_X6_counts_c53] at hf
    cases hf
  | succ n ih =>
    intro x1 x2 x3 x4 st hf
    rw [S_X6_counts_c53] at hf
    refine aw_iload 4 dX6_counts_53 rfl ?_
    refine aw_iload_n 2 dX6_counts_55 rfl rfl ?_
    refine aw_icmp_ge 310 dX6_counts_56 (by decide) (fun c15 => ?_) (fun c15 => ?_)
    · have hf := it_t c15 hf
      refine aw_sub [0, 3] rfl ?_
      exact hK310 x3 st hf
    · have hf := it_f c15 hf
      refine aw_aload_n 0 dX6_counts_59 rfl rfl ?_
      refine aw_get (v := .ref (ad 0)) (mg_o hok) rfl in_X6 0 (by decide) q1739 (Or.inl rfl) rfl dX6_counts_60 ?_
      refine aw_bipush (v := 23) dX6_counts_63 (by decide) ?_
      refine aw_aload_n 0 dX6_counts_65 rfl rfl ?_
      refine aw_iload_n 1 dX6_counts_66 rfl rfl ?_
      refine aw_iload 4 dX6_counts_67 rfl ?_
      obtain ⟨q16, eq16, hf⟩ := Option.bind_eq_some_iff.mp hf
      refine aw_callV (rest := [.int 23, .ref (ad 0)]) (C_X6_cellAt hok hl eq16) (mg_o hok) rfl rfl nX6_cellAt q1892 q1894 qs67 q137 q1895 dX6_counts_69 rfl (by decide) (by decide) (Nat.le_of_ble_eq_true rfl) (Nat.le_refl _) (Nat.le_refl _) (aP1_i ?_) aP1_x
      refine aw_iadd dX6_counts_72 ?_
      obtain ⟨j17, z18, ej17, hf⟩ := ob_s hf
      refine aw_ialdj (mg_0 hok) z18 ej17 dX6_counts_73 ?_
      refine aw_topi (fun v19 ev19 => ?_)
      have hf := onm_a ev19 hf
      refine aw_istore (lv' := [(5, .int v19), (0, .ref (ad 13)), (1, .int x1), (2, .int x2), (3, .int x3), (4, .int x4)]) dX6_counts_74 (Nat.le_of_ble_eq_true rfl) rfl ?_
      refine aw_iconst (v := 0) dX6_counts_76 (by decide) ?_
      refine aw_istore (lv' := [(6, .int 0), (5, .int v19), (0, .ref (ad 13)), (1, .int x1), (2, .int x2), (3, .int x3), (4, .int x4)]) dX6_counts_77 (Nat.le_of_ble_eq_true rfl) rfl ?_
      refine aw_sub [2, 3, 4, 5, 6, 1, 0] rfl ?_
      refine A_X6_counts_c79 hok hl ?_ n x1 x2 x3 x4 v19 0 st hf
      · intro y20_1 y20_2 y20_3 y20_4 y20_5 u21 hf
        refine aw_iconst (v := 0) dX6_counts_100 (by decide) ?_
        refine aw_istore (lv' := [(6, .int 0), (0, .ref (ad 13)), (1, .int y20_1), (2, .int y20_2), (3, .int y20_3), (4, .int y20_4), (5, .int y20_5)]) dX6_counts_101 (Nat.le_of_ble_eq_true rfl) rfl ?_
        refine aw_sub [1, 2, 3, 4, 5, 6, 0] rfl ?_
        refine A_X6_counts_c103 hok hl ?_ n y20_1 y20_2 y20_3 y20_4 y20_5 0 u21 hf
        · intro y22_1 y22_2 y22_3 y22_4 u23 hf
          refine aw_iconst (v := 0) dX6_counts_274 (by decide) ?_
          refine aw_istore (lv' := [(6, .int 0), (0, .ref (ad 13)), (1, .int y22_1), (2, .int y22_2), (3, .int y22_3), (4, .int y22_4)]) dX6_counts_275 (Nat.le_of_ble_eq_true rfl) rfl ?_
          refine aw_sub [1, 2, 3, 4, 5, 0] rfl ?_
          refine A_X6_counts_c277 hok hl ?_ n y22_1 y22_2 y22_3 y22_4 0 u23 hf
          · intro y24_1 y24_2 y24_3 y24_4 u25 hf
            refine aw_iinc 4 (v := y24_4 + 1) (lv' := [(4, .int (y24_4 + 1)), (0, .ref (ad 13)), (1, .int y24_1), (2, .int y24_2), (3, .int y24_3)]) dX6_counts_304 rfl rfl (Nat.le_of_ble_eq_true rfl) rfl ?_
            refine aw_goto 53 dX6_counts_307 (by decide) ?_
            refine aw_sub [1, 2, 3, 4, 0] rfl ?_
            exact ih y24_1 y24_2 y24_3 (y24_4 + 1) u25 hf
def S_X6_counts (n : Nat) (x1 : Int32) (st : MSt) : Option (Int32 × MSt) :=
  onm (st.2.1 0 0) fun v1 =>
  onm (st.2.1 0 1) fun v2 =>
  S_X6_counts_c17
    (fun y13_1 y13_2 y13_3 u14 => 
        S_X6_counts_c53
          (fun y26_3 u27 => 
              ob (((1 : Int32) <<< (y26_3 &&& 31)) - (1 : Int32)) 16 fun j28 =>
              some (u27.2.1 11 j28, u27))
           n y13_1 y13_2 y13_3 0 u14)
     n x1 v1 v2 0 st
set_option maxHeartbeats 2000000 in
theorem C_X6_counts {l : Launch} {G : aG} {ad : Nat → Nat} {h0 : aH} (hok : mOk ad) (hl : l.stackTraces = false) {n : Nat} {x1 : Int32} {st : MSt} {r : Int32 × MSt} (hf : S_X6_counts n x1 st = some r) : aC l G mX6_counts (ws_ yX6_counts cX6_counts 10 (some .int)) 1 0 0 [.ref (ad 13), .int x1] (mh ad st h0) (aP1 (some (.int r.1)) (mh ad r.2 h0)) := by
  refine aC_of (M := mX6_counts) rfl (by decide) (Nat.le_of_ble_eq_true rfl) hl ?_
  rw [S_X6_counts] at hf
  refine aw_eqv (lv2 := [(0, .ref (ad 13)), (1, .int x1)]) rfl rfl rfl rfl ?_
  refine aw_aload_n 0 dX6_counts_0 rfl rfl ?_
  refine aw_get (v := .ref (ad 0)) (mg_o hok) rfl in_X6 0 (by decide) q1739 (Or.inl rfl) rfl dX6_counts_1 ?_
  refine aw_iconst (v := 0) dX6_counts_4 (by decide) ?_
  refine aw_ialdj (j := 0) (mg_0 hok) (vpc (by decide)) (by decide) dX6_counts_5 ?_
  refine aw_topi (fun v1 ev1 => ?_)
  have hf := onm_a ev1 hf
  refine aw_istore_n (lv' := [(2, .int v1), (0, .ref (ad 13)), (1, .int x1)]) dX6_counts_6 rfl (Nat.le_of_ble_eq_true rfl) rfl ?_
  refine aw_aload_n 1 dX6_counts_7 rfl rfl ?_
  refine aw_get (v := .ref (ad 0)) (mg_o hok) rfl in_X6 0 (by decide) q1739 (Or.inl rfl) rfl dX6_counts_8 ?_
  refine aw_iconst (v := 1) dX6_counts_11 (by decide) ?_
  refine aw_ialdj (j := 1) (mg_0 hok) (vpc (by decide)) (by decide) dX6_counts_12 ?_
  refine aw_topi (fun v2 ev2 => ?_)
  have hf := onm_a ev2 hf
  refine aw_istore_n (lv' := [(3, .int v2), (2, .int v1), (0, .ref (ad 13)), (1, .int x1)]) dX6_counts_13 rfl (Nat.le_of_ble_eq_true rfl) rfl ?_
  refine aw_iconst (v := 0) dX6_counts_14 (by decide) ?_
  refine aw_istore (lv' := [(4, .int 0), (3, .int v2), (2, .int v1), (0, .ref (ad 13)), (1, .int x1)]) dX6_counts_15 (Nat.le_of_ble_eq_true rfl) rfl ?_
  refine aw_sub [3, 4, 2, 1, 0] rfl ?_
  refine A_X6_counts_c17 hok hl ?_ n x1 v1 v2 0 st hf
  · intro y13_1 y13_2 y13_3 u14 hf
    refine aw_iconst (v := 0) dX6_counts_50 (by decide) ?_
    refine aw_istore (lv' := [(4, .int 0), (0, .ref (ad 13)), (1, .int y13_1), (2, .int y13_2), (3, .int y13_3)]) dX6_counts_51 (Nat.le_of_ble_eq_true rfl) rfl ?_
    refine aw_sub [1, 2, 3, 4, 0] rfl ?_
    refine A_X6_counts_c53 hok hl ?_ n y13_1 y13_2 y13_3 0 u14 hf
    · intro y26_3 u27 hf
      refine aw_aload_n 0 dX6_counts_310 rfl rfl ?_
      refine aw_get (v := .ref (ad 11)) (mg_o hok) rfl in_X6 22 (by decide) q1761 (Or.inl rfl) rfl dX6_counts_311 ?_
      refine aw_iconst (v := 1) dX6_counts_314 (by decide) ?_
      refine aw_iload_n 1 dX6_counts_315 rfl rfl ?_
      refine aw_ishl dX6_counts_316 ?_
      refine aw_iconst (v := 1) dX6_counts_317 (by decide) ?_
      refine aw_isub dX6_counts_318 ?_
      obtain ⟨j28, z29, ej28, hf⟩ := ob_s hf
      refine aw_ialdj (mg_11 hok) z29 ej28 dX6_counts_319 ?_
      cases hf
      exact aw_iret rfl dX6_counts_320 aP1_rfl (Nat.le_refl _) (Nat.le_refl _)
abbrev mX6_arrangementsByCells : aM := (yX6_arrangementsByCells, cX6_arrangementsByCells, 2, some .int, [])
theorem nX6_arrangementsByCells : aNoMH yX6_arrangementsByCells 1 := by decide +kernel
def S_X6_arrangementsByCells (n : Nat) (x1 : Int32) (st : MSt) : Option (Int32 × MSt) :=
  (S_X6_isLine x1 st).bind fun q1 =>
  (S_X6_goes q1 1 1 st).bind fun q2 =>
  if q2.1 = 0 then
    some (0, q2.2)
  else
    (S_X6_counts n x1 q2.2).bind fun q4 =>
    some (q4.1, q4.2)
set_option maxHeartbeats 2000000 in
theorem C_X6_arrangementsByCells {l : Launch} {G : aG} {ad : Nat → Nat} {h0 : aH} (hok : mOk ad) (hl : l.stackTraces = false) {n : Nat} {x1 : Int32} {st : MSt} {r : Int32 × MSt} (hf : S_X6_arrangementsByCells n x1 st = some r) : aC l G mX6_arrangementsByCells (ws_ yX6_arrangementsByCells cX6_arrangementsByCells 2 (some .int)) 2 0 0 [.ref (ad 13), .int x1] (mh ad st h0) (aP1 (some (.int r.1)) (mh ad r.2 h0)) := by
  refine aC_of (M := mX6_arrangementsByCells) rfl (by decide) (Nat.le_of_ble_eq_true rfl) hl ?_
  rw [S_X6_arrangementsByCells] at hf
  refine aw_eqv (lv2 := [(0, .ref (ad 13)), (1, .int x1)]) rfl rfl rfl rfl ?_
  refine aw_aload_n 0 dX6_arrangementsByCells_0 rfl rfl ?_
  refine aw_aload_n 0 dX6_arrangementsByCells_1 rfl rfl ?_
  refine aw_iload_n 1 dX6_arrangementsByCells_2 rfl rfl ?_
  obtain ⟨q1, eq1, hf⟩ := Option.bind_eq_some_iff.mp hf
  refine aw_callV (rest := [.ref (ad 13)]) (C_X6_isLine hok hl eq1) (mg_o hok) rfl rfl nX6_isLine q1954 q1956 qs72 q137 q1957 dX6_arrangementsByCells_3 rfl (by decide) (by decide) (Nat.le_of_ble_eq_true rfl) (Nat.le_refl _) (Nat.le_refl _) (aP1_i ?_) aP1_x
  refine aw_iconst (v := 1) dX6_arrangementsByCells_6 (by decide) ?_
  refine aw_iconst (v := 1) dX6_arrangementsByCells_7 (by decide) ?_
  obtain ⟨q2, eq2, hf⟩ := Option.bind_eq_some_iff.mp hf
  refine aw_callV (rest := []) (C_X6_goes hok hl eq2) (mg_o hok) rfl rfl nX6_goes q1825 q1827 qs55 q137 q1828 dX6_arrangementsByCells_8 rfl (by decide) (by decide) (Nat.le_of_ble_eq_true rfl) (Nat.le_refl _) (Nat.le_refl _) (aP1_i ?_) aP1_x
  refine aw_if_eq 22 dX6_arrangementsByCells_11 (by decide) (fun c3 => ?_) (fun c3 => ?_)
  · have hf := it_t c3 hf
    refine aw_iconst (v := 0) dX6_arrangementsByCells_22 (by decide) ?_
    cases hf
    exact aw_iret rfl dX6_arrangementsByCells_23 aP1_rfl (Nat.le_refl _) (Nat.le_refl _)
  · have hf := it_f c3 hf
    refine aw_aload_n 0 dX6_arrangementsByCells_14 rfl rfl ?_
    refine aw_iload_n 1 dX6_arrangementsByCells_15 rfl rfl ?_
    obtain ⟨q4, eq4, hf⟩ := Option.bind_eq_some_iff.mp hf
    refine aw_callV (rest := []) (C_X6_counts hok hl eq4) (mg_o hok) rfl rfl nX6_counts q2048 q2050 qs84 q137 q2051 dX6_arrangementsByCells_16 rfl (by decide) (by decide) (Nat.le_of_ble_eq_true rfl) (Nat.le_refl _) (Nat.le_refl _) (aP1_i ?_) aP1_x
    refine aw_goto 23 dX6_arrangementsByCells_19 (by decide) ?_
    cases hf
    exact aw_iret rfl dX6_arrangementsByCells_23 aP1_rfl (Nat.le_refl _) (Nat.le_refl _)
abbrev mX6_thingsIn : aM := (yX6_thingsIn, cX6_thingsIn, 4, some .int, [])
theorem nX6_thingsIn : aNoMH yX6_thingsIn 2 := by decide +kernel
def S_X6_thingsIn (n : Nat) (x1 : Int32) (x2 : Int32) (st : MSt) : Option (Int32 × MSt) :=
  (S_X6_isPlace x1 x2 st).bind fun q1 =>
  (S_X6_goes q1 1 1 st).bind fun q2 =>
  if q2.1 = 0 then
    some (0, q2.2)
  else
    (S_X6_loads n 0 q2.2).bind fun q4 =>
    (S_X6_looks n 0 x1 q4).bind fun q5 =>
    ob x2 5 fun j6 =>
    some (q5.2.2.1 6 j6, q5.2)
set_option maxHeartbeats 2000000 in
theorem C_X6_thingsIn {l : Launch} {G : aG} {ad : Nat → Nat} {h0 : aH} (hok : mOk ad) (hl : l.stackTraces = false) {n : Nat} {x1 : Int32} {x2 : Int32} {st : MSt} {r : Int32 × MSt} (hf : S_X6_thingsIn n x1 x2 st = some r) : aC l G mX6_thingsIn (ws_ yX6_thingsIn cX6_thingsIn 4 (some .int)) 4 0 0 [.ref (ad 13), .int x1, .int x2] (mh ad st h0) (aP1 (some (.int r.1)) (mh ad r.2 h0)) := by
  refine aC_of (M := mX6_thingsIn) rfl (by decide) (Nat.le_of_ble_eq_true rfl) hl ?_
  rw [S_X6_thingsIn] at hf
  refine aw_eqv (lv2 := [(0, .ref (ad 13)), (1, .int x1), (2, .int x2)]) rfl rfl rfl rfl ?_
  refine aw_aload_n 0 dX6_thingsIn_0 rfl rfl ?_
  refine aw_aload_n 0 dX6_thingsIn_1 rfl rfl ?_
  refine aw_iload_n 1 dX6_thingsIn_2 rfl rfl ?_
  refine aw_iload_n 2 dX6_thingsIn_3 rfl rfl ?_
  obtain ⟨q1, eq1, hf⟩ := Option.bind_eq_some_iff.mp hf
  refine aw_callV (rest := [.ref (ad 13)]) (C_X6_isPlace hok hl eq1) (mg_o hok) rfl rfl nX6_isPlace q1950 q1952 qs71 q137 q1953 dX6_thingsIn_4 rfl (by decide) (by decide) (Nat.le_of_ble_eq_true rfl) (Nat.le_refl _) (Nat.le_refl _) (aP1_i ?_) aP1_x
  refine aw_iconst (v := 1) dX6_thingsIn_7 (by decide) ?_
  refine aw_iconst (v := 1) dX6_thingsIn_8 (by decide) ?_
  obtain ⟨q2, eq2, hf⟩ := Option.bind_eq_some_iff.mp hf
  refine aw_callV (rest := []) (C_X6_goes hok hl eq2) (mg_o hok) rfl rfl nX6_goes q1825 q1827 qs55 q137 q1828 dX6_thingsIn_9 rfl (by decide) (by decide) (Nat.le_of_ble_eq_true rfl) (Nat.le_refl _) (Nat.le_refl _) (aP1_i ?_) aP1_x
  refine aw_if_ne 17 dX6_thingsIn_12 (by decide) (fun c3 => ?_) (fun c3 => ?_)
  · have hf := it_f c3 hf
    refine aw_aload_n 0 dX6_thingsIn_17 rfl rfl ?_
    refine aw_iconst (v := 0) dX6_thingsIn_18 (by decide) ?_
    obtain ⟨q4, eq4, hf⟩ := Option.bind_eq_some_iff.mp hf
    refine aw_callV (rest := []) (C_X6_loads hok hl eq4) (mg_o hok) rfl rfl nX6_loads q2009 q2011 qs78 q137 q2012 dX6_thingsIn_19 rfl (by decide) (by decide) (Nat.le_of_ble_eq_true rfl) (Nat.le_refl _) (Nat.le_refl _) (aP1_v ?_) aP1_x
    refine aw_aload_n 0 dX6_thingsIn_22 rfl rfl ?_
    refine aw_iconst (v := 0) dX6_thingsIn_23 (by decide) ?_
    refine aw_iload_n 1 dX6_thingsIn_24 rfl rfl ?_
    obtain ⟨q5, eq5, hf⟩ := Option.bind_eq_some_iff.mp hf
    refine aw_callV (rest := []) (C_X6_looks hok hl eq5) (mg_o hok) rfl rfl nX6_looks q2017 q2019 qs80 q137 q2020 dX6_thingsIn_25 rfl (by decide) (by decide) (Nat.le_of_ble_eq_true rfl) (Nat.le_refl _) (Nat.le_refl _) (aP1_i ?_) aP1_x
    refine aw_istore_n (lv' := [(3, .int q5.1), (0, .ref (ad 13)), (1, .int x1), (2, .int x2)]) dX6_thingsIn_28 rfl (Nat.le_of_ble_eq_true rfl) rfl ?_
    refine aw_aload_n 1 dX6_thingsIn_29 rfl rfl ?_
    refine aw_get (v := .ref (ad 6)) (mg_o hok) rfl in_X6 16 (by decide) q1755 (Or.inl rfl) rfl dX6_thingsIn_30 ?_
    refine aw_iload_n 3 dX6_thingsIn_33 rfl rfl ?_
    obtain ⟨j6, z7, ej6, hf⟩ := ob_s hf
    refine aw_ialdj (mg_6 hok) z7 ej6 dX6_thingsIn_34 ?_
    cases hf
    exact aw_iret rfl dX6_thingsIn_35 aP1_rfl (Nat.le_refl _) (Nat.le_refl _)
  · have hf := it_t c3 hf
    refine aw_iconst (v := 0) dX6_thingsIn_15 (by decide) ?_
    cases hf
    exact aw_iret rfl dX6_thingsIn_16 aP1_rfl (Nat.le_refl _) (Nat.le_refl _)
abbrev mX6_brokenLines : aM := (yX6_brokenLines, cX6_brokenLines, 1, some .int, [])
theorem nX6_brokenLines : aNoMH yX6_brokenLines 0 := by decide +kernel
def S_X6_brokenLines (n : Nat) (st : MSt) : Option (Int32 × MSt) :=
  (S_X6_brokenNow n st).bind fun q1 =>
  (S_X6_told q1.1 q1.2).bind fun q2 =>
  some (q2.1, q2.2)
set_option maxHeartbeats 2000000 in
theorem C_X6_brokenLines {l : Launch} {G : aG} {ad : Nat → Nat} {h0 : aH} (hok : mOk ad) (hl : l.stackTraces = false) {n : Nat} {st : MSt} {r : Int32 × MSt} (hf : S_X6_brokenLines n st = some r) : aC l G mX6_brokenLines (ws_ yX6_brokenLines cX6_brokenLines 1 (some .int)) 6 0 0 [.ref (ad 13)] (mh ad st h0) (aP1 (some (.int r.1)) (mh ad r.2 h0)) := by
  refine aC_of (M := mX6_brokenLines) rfl (by decide) (Nat.le_of_ble_eq_true rfl) hl ?_
  rw [S_X6_brokenLines] at hf
  refine aw_eqv (lv2 := [(0, .ref (ad 13))]) rfl rfl rfl rfl ?_
  refine aw_aload_n 0 dX6_brokenLines_0 rfl rfl ?_
  refine aw_aload_n 0 dX6_brokenLines_1 rfl rfl ?_
  obtain ⟨q1, eq1, hf⟩ := Option.bind_eq_some_iff.mp hf
  refine aw_callV (rest := [.ref (ad 13)]) (C_X6_brokenNow hok hl eq1) (mg_o hok) rfl rfl nX6_brokenNow q2005 q2007 qs77 q137 q2008 dX6_brokenLines_2 rfl (by decide) (by decide) (Nat.le_of_ble_eq_true rfl) (Nat.le_refl _) (Nat.le_refl _) (aP1_i ?_) aP1_x
  obtain ⟨q2, eq2, hf⟩ := Option.bind_eq_some_iff.mp hf
  refine aw_callV (rest := []) (C_X6_told hok hl eq2) (mg_o hok) rfl rfl nX6_told q1918 q1920 qs69 q137 q1921 dX6_brokenLines_5 rfl (by decide) (by decide) (Nat.le_of_ble_eq_true rfl) (Nat.le_refl _) (Nat.le_refl _) (aP1_i ?_) aP1_x
  cases hf
  exact aw_iret rfl dX6_brokenLines_8 aP1_rfl (Nat.le_refl _) (Nat.le_refl _)
abbrev mX6_only : aM := (yX6_only, cX6_only, 3, some .int, [])
theorem nX6_only : aNoMH yX6_only 1 := by decide +kernel
def S_X6_only_c4 : Nat → Int32 → Int32 → Int32 → Option (Int32)
  | 0, _, _, _ => none
  | n + 1, x0, x1, x2 =>
    if 5 ≤ x2 then
      some x1
    else
      if x0 = ((1 : Int32) <<< (x2 &&& 31)) then
        S_X6_only_c4 n x0 x2 (x2 + 1)
      else
        S_X6_only_c4 n x0 x1 (x2 + 1)
set_option maxHeartbeats 2000000 in
theorem A_X6_only_c4 {l : Launch} {G : aG} {h : aH} (hl : l.stackTraces = false) {r : Int32} : ∀ (n : Nat) (x0 : Int32) (x1 : Int32) (x2 : Int32), S_X6_only_c4 n x0 x1 x2 = some r → AW l G mX6_only 0 0 0 (aP1 (some (.int r)) h) 4 [(0, .int x0), (1, .int x1), (2, .int x2)] [] h 0 0 := by
  intro n
  induction n with
  | zero =>
    intro x0 x1 x2 hf
    rw [S_X6_only_c4] at hf
    cases hf
  | succ n ih =>
    intro x0 x1 x2 hf
    rw [S_X6_only_c4] at hf
    refine aw_iload_n 2 dX6_only_4 rfl rfl ?_
    refine aw_iconst (v := 5) dX6_only_5 (by decide) ?_
    refine aw_icmp_ge 28 dX6_only_6 (by decide) (fun c1 => ?_) (fun c1 => ?_)
    · have hf := it_t c1 hf
      refine aw_iload_n 1 dX6_only_28 rfl rfl ?_
      cases hf
      exact aw_iret rfl dX6_only_29 aP1_rfl (Nat.le_refl _) (Nat.le_refl _)
    · have hf := it_f c1 hf
      refine aw_iload_n 0 dX6_only_9 rfl rfl ?_
      refine aw_iconst (v := 1) dX6_only_10 (by decide) ?_
      refine aw_iload_n 2 dX6_only_11 rfl rfl ?_
      refine aw_ishl dX6_only_12 ?_
      refine aw_icmp_ne 20 dX6_only_13 (by decide) (fun c2 => ?_) (fun c2 => ?_)
      · have hf := it_f c2 hf
        refine aw_iload_n 1 dX6_only_20 rfl rfl ?_
        refine aw_istore_n (lv' := [(1, .int x1), (0, .int x0), (2, .int x2)]) dX6_only_21 rfl (Nat.le_of_ble_eq_true rfl) rfl ?_
        refine aw_iinc 2 (v := x2 + 1) (lv' := [(2, .int (x2 + 1)), (1, .int x1), (0, .int x0)]) dX6_only_22 rfl rfl (Nat.le_of_ble_eq_true rfl) rfl ?_
        refine aw_goto 4 dX6_only_25 (by decide) ?_
        refine aw_sub [2, 1, 0] rfl ?_
        exact ih x0 x1 (x2 + 1) hf
      · have hf := it_t c2 hf
        refine aw_iload_n 2 dX6_only_16 rfl rfl ?_
        refine aw_goto 21 dX6_only_17 (by decide) ?_
        refine aw_istore_n (lv' := [(1, .int x2), (0, .int x0), (2, .int x2)]) dX6_only_21 rfl (Nat.le_of_ble_eq_true rfl) rfl ?_
        refine aw_iinc 2 (v := x2 + 1) (lv' := [(2, .int (x2 + 1)), (1, .int x2), (0, .int x0)]) dX6_only_22 rfl rfl (Nat.le_of_ble_eq_true rfl) rfl ?_
        refine aw_goto 4 dX6_only_25 (by decide) ?_
        refine aw_sub [2, 1, 0] rfl ?_
        exact ih x0 x2 (x2 + 1) hf
def S_X6_only (n : Nat) (x0 : Int32) : Option (Int32) :=
  S_X6_only_c4 n x0 0 1
set_option maxHeartbeats 2000000 in
theorem C_X6_only {l : Launch} {G : aG} {h : aH} (hl : l.stackTraces = false) {n : Nat} {x0 : Int32} {r : Int32} (hf : S_X6_only n x0 = some r) : aC l G mX6_only (ws_ yX6_only cX6_only 3 (some .int)) 0 0 0 [.int x0] h (aP1 (some (.int r)) h) := by
  refine aC_of (M := mX6_only) rfl (by decide) (Nat.le_of_ble_eq_true rfl) hl ?_
  rw [S_X6_only] at hf
  refine aw_eqv (lv2 := [(0, .int x0)]) rfl rfl rfl rfl ?_
  refine aw_iconst (v := 0) dX6_only_0 (by decide) ?_
  refine aw_istore_n (lv' := [(1, .int 0), (0, .int x0)]) dX6_only_1 rfl (Nat.le_of_ble_eq_true rfl) rfl ?_
  refine aw_iconst (v := 1) dX6_only_2 (by decide) ?_
  refine aw_istore_n (lv' := [(2, .int 1), (1, .int 0), (0, .int x0)]) dX6_only_3 rfl (Nat.le_of_ble_eq_true rfl) rfl ?_
  refine aw_sub [2, 1, 0] rfl ?_
  exact A_X6_only_c4 hl n x0 0 1 hf
abbrev mX6_seenFrom : aM := (yX6_seenFrom, cX6_seenFrom, 11, some .int, [])
theorem nX6_seenFrom : aNoMH yX6_seenFrom 2 := by decide +kernel
def S_X6_seenFrom_j146 (K89 : Int32 → Int32 → Int32 → Int32 → Int32 → Int32 → Int32 → MSt → Option (Int32 × MSt)) (n : Nat) (x3 : Int32) (x4 : Int32) (x5 : Int32) (x6 : Int32) (x7 : Int32) (x9 : Int32) (x10 : Int32) (xs0 : Int32) (st : MSt) : Option (Int32 × MSt) :=
  (S_X6_only n x10).bind fun q18 =>
  if (st.2.1 0 1) ≤ q18 then
    K89 x3 x4 x5 x6 x7 xs0 (x9 + 1) st
  else
    if x6 = 0 then
      (S_X6_only n x10).bind fun q21 =>
      K89 x3 x4 x5 (x6 + (-1)) q21 xs0 (x9 + 1) st
    else
      K89 x3 x4 x5 (x6 + (-1)) x7 xs0 (x9 + 1) st
set_option maxHeartbeats 2000000 in
theorem A_X6_seenFrom_j146 {l : Launch} {G : aG} {ad : Nat → Nat} {h0 : aH} (hok : mOk ad) (hl : l.stackTraces = false) {r : Int32 × MSt} {K89 : Int32 → Int32 → Int32 → Int32 → Int32 → Int32 → Int32 → MSt → Option (Int32 × MSt)} (hK89 : ∀ (w3 : Int32) (w4 : Int32) (w5 : Int32) (w6 : Int32) (w7 : Int32) (w8 : Int32) (w9 : Int32) (st : MSt), K89 w3 w4 w5 w6 w7 w8 w9 st = some r → AW l G mX6_seenFrom 2 0 0 (aP1 (some (.int r.1)) (mh ad r.2 h0)) 89 [(0, .ref (ad 13)), (3, .int w3), (4, .int w4), (5, .int w5), (6, .int w6), (7, .int w7), (8, .int w8), (9, .int w9)] [] (mh ad st h0) 0 0) : ∀ (n : Nat) (x3 : Int32) (x4 : Int32) (x5 : Int32) (x6 : Int32) (x7 : Int32) (x9 : Int32) (x10 : Int32) (xs0 : Int32) (st : MSt), S_X6_seenFrom_j146 K89 n x3 x4 x5 x6 x7 x9 x10 xs0 st = some r → AW l G mX6_seenFrom 2 0 0 (aP1 (some (.int r.1)) (mh ad r.2 h0)) 146 [(0, .ref (ad 13)), (3, .int x3), (4, .int x4), (5, .int x5), (6, .int x6), (7, .int x7), (9, .int x9), (10, .int x10)] [.int xs0] (mh ad st h0) 0 0 := by
  intro n x3 x4 x5 x6 x7 x9 x10 xs0 st hf
  rw [S_X6_seenFrom_j146] at hf
  refine aw_istore (lv' := [(8, .int xs0), (0, .ref (ad 13)), (3, .int x3), (4, .int x4), (5, .int x5), (6, .int x6), (7, .int x7), (9, .int x9), (10, .int x10)]) dX6_seenFrom_146 (Nat.le_of_ble_eq_true rfl) rfl ?_
  refine aw_iload 8 dX6_seenFrom_148 rfl ?_
  obtain ⟨q18, eq18, hf⟩ := Option.bind_eq_some_iff.mp hf
  refine aw_callS (rest := []) (C_X6_only hl eq18) nX6_only q2067 q2068 q137 q2069 dX6_seenFrom_150 rfl (by decide) (by decide) (Nat.le_of_ble_eq_true rfl) (Nat.le_refl _) (Nat.le_refl _) (aP1_i ?_) aP1_x
  refine aw_aload_n 1 dX6_seenFrom_153 rfl rfl ?_
  refine aw_get (v := .ref (ad 0)) (mg_o hok) rfl in_X6 0 (by decide) q1739 (Or.inl rfl) rfl dX6_seenFrom_154 ?_
  refine aw_iconst (v := 1) dX6_seenFrom_157 (by decide) ?_
  refine aw_ialdj (j := 1) (mg_0 hok) (vpc (by decide)) (by decide) dX6_seenFrom_158 ?_
  refine aw_icmp_ge 182 dX6_seenFrom_159 (by decide) (fun c19 => ?_) (fun c19 => ?_)
  · have hf := it_t c19 hf
    refine aw_iinc 7 (v := x9 + 1) (lv' := [(9, .int (x9 + 1)), (8, .int xs0), (0, .ref (ad 13)), (3, .int x3), (4, .int x4), (5, .int x5), (6, .int x6), (7, .int x7), (10, .int x10)]) dX6_seenFrom_182 rfl rfl (Nat.le_of_ble_eq_true rfl) rfl ?_
    refine aw_goto 89 dX6_seenFrom_185 (by decide) ?_
    refine aw_sub [2, 3, 4, 5, 6, 7, 1, 0] rfl ?_
    exact hK89 x3 x4 x5 x6 x7 xs0 (x9 + 1) st hf
  · have hf := it_f c19 hf
    refine aw_iload 5 dX6_seenFrom_162 rfl ?_
    refine aw_if_ne 175 dX6_seenFrom_164 (by decide) (fun c20 => ?_) (fun c20 => ?_)
    · have hf := it_f c20 hf
      refine aw_iload 6 dX6_seenFrom_175 rfl ?_
      refine aw_istore (lv' := [(7, .int x7), (8, .int xs0), (0, .ref (ad 13)), (3, .int x3), (4, .int x4), (5, .int x5), (6, .int x6), (9, .int x9), (10, .int x10)]) dX6_seenFrom_177 (Nat.le_of_ble_eq_true rfl) rfl ?_
      refine aw_iinc 6 (v := x6 + (-1)) (lv' := [(6, .int (x6 + (-1))), (7, .int x7), (8, .int xs0), (0, .ref (ad 13)), (3, .int x3), (4, .int x4), (5, .int x5), (9, .int x9), (10, .int x10)]) dX6_seenFrom_179 rfl rfl (Nat.le_of_ble_eq_true rfl) rfl ?_
      refine aw_iinc 7 (v := x9 + 1) (lv' := [(9, .int (x9 + 1)), (6, .int (x6 + (-1))), (7, .int x7), (8, .int xs0), (0, .ref (ad 13)), (3, .int x3), (4, .int x4), (5, .int x5), (10, .int x10)]) dX6_seenFrom_182 rfl rfl (Nat.le_of_ble_eq_true rfl) rfl ?_
      refine aw_goto 89 dX6_seenFrom_185 (by decide) ?_
      refine aw_sub [4, 5, 6, 7, 1, 2, 3, 0] rfl ?_
      exact hK89 x3 x4 x5 (x6 + (-1)) x7 xs0 (x9 + 1) st hf
    · have hf := it_t c20 hf
      refine aw_iload 8 dX6_seenFrom_167 rfl ?_
      obtain ⟨q21, eq21, hf⟩ := Option.bind_eq_some_iff.mp hf
      refine aw_callS (rest := []) (C_X6_only hl eq21) nX6_only q2067 q2068 q137 q2069 dX6_seenFrom_169 rfl (by decide) (by decide) (Nat.le_of_ble_eq_true rfl) (Nat.le_refl _) (Nat.le_refl _) (aP1_i ?_) aP1_x
      refine aw_goto 177 dX6_seenFrom_172 (by decide) ?_
      refine aw_istore (lv' := [(7, .int q21), (8, .int xs0), (0, .ref (ad 13)), (3, .int x3), (4, .int x4), (5, .int x5), (6, .int x6), (9, .int x9), (10, .int x10)]) dX6_seenFrom_177 (Nat.le_of_ble_eq_true rfl) rfl ?_
      refine aw_iinc 6 (v := x6 + (-1)) (lv' := [(6, .int (x6 + (-1))), (7, .int q21), (8, .int xs0), (0, .ref (ad 13)), (3, .int x3), (4, .int x4), (5, .int x5), (9, .int x9), (10, .int x10)]) dX6_seenFrom_179 rfl rfl (Nat.le_of_ble_eq_true rfl) rfl ?_
      refine aw_iinc 7 (v := x9 + 1) (lv' := [(9, .int (x9 + 1)), (6, .int (x6 + (-1))), (7, .int q21), (8, .int xs0), (0, .ref (ad 13)), (3, .int x3), (4, .int x4), (5, .int x5), (10, .int x10)]) dX6_seenFrom_182 rfl rfl (Nat.le_of_ble_eq_true rfl) rfl ?_
      refine aw_goto 89 dX6_seenFrom_185 (by decide) ?_
      refine aw_sub [4, 5, 6, 7, 1, 2, 3, 0] rfl ?_
      exact hK89 x3 x4 x5 (x6 + (-1)) q21 xs0 (x9 + 1) st hf
def S_X6_seenFrom_j120 (K89 : Int32 → Int32 → Int32 → Int32 → Int32 → Int32 → Int32 → MSt → Option (Int32 × MSt)) (n : Nat) (x3 : Int32) (x4 : Int32) (x5 : Int32) (x6 : Int32) (x7 : Int32) (x8 : Int32) (x9 : Int32) (xs0 : Int32) (xs1 : Int32) (xs3 : Int32) (st : MSt) : Option (Int32 × MSt) :=
  (S_X6_cellAt xs1 xs0 st).bind fun q13 =>
  ob (xs3 + q13) 432 fun j14 =>
  onm (st.2.1 0 j14) fun v16 =>
  if x8 = 0 then
    S_X6_seenFrom_j146 K89 n x3 x4 x5 x6 x7 x9 v16 0 st
  else
    (S_X6_isSettled n v16 st).bind fun q18 =>
    if q18 = 0 then
      S_X6_seenFrom_j146 K89 n x3 x4 x5 x6 x7 x9 v16 0 st
    else
      S_X6_seenFrom_j146 K89 n x3 x4 x5 x6 x7 x9 v16 1 st
set_option maxHeartbeats 2000000 in
theorem A_X6_seenFrom_j120 {l : Launch} {G : aG} {ad : Nat → Nat} {h0 : aH} (hok : mOk ad) (hl : l.stackTraces = false) {r : Int32 × MSt} {K89 : Int32 → Int32 → Int32 → Int32 → Int32 → Int32 → Int32 → MSt → Option (Int32 × MSt)} (hK89 : ∀ (w3 : Int32) (w4 : Int32) (w5 : Int32) (w6 : Int32) (w7 : Int32) (w8 : Int32) (w9 : Int32) (st : MSt), K89 w3 w4 w5 w6 w7 w8 w9 st = some r → AW l G mX6_seenFrom 2 0 0 (aP1 (some (.int r.1)) (mh ad r.2 h0)) 89 [(0, .ref (ad 13)), (3, .int w3), (4, .int w4), (5, .int w5), (6, .int w6), (7, .int w7), (8, .int w8), (9, .int w9)] [] (mh ad st h0) 0 0) : ∀ (n : Nat) (x3 : Int32) (x4 : Int32) (x5 : Int32) (x6 : Int32) (x7 : Int32) (x8 : Int32) (x9 : Int32) (xs0 : Int32) (xs1 : Int32) (xs3 : Int32) (st : MSt), S_X6_seenFrom_j120 K89 n x3 x4 x5 x6 x7 x8 x9 xs0 xs1 xs3 st = some r → AW l G mX6_seenFrom 2 0 0 (aP1 (some (.int r.1)) (mh ad r.2 h0)) 120 [(0, .ref (ad 13)), (3, .int x3), (4, .int x4), (5, .int x5), (6, .int x6), (7, .int x7), (8, .int x8), (9, .int x9)] [.int xs0, .int xs1, .ref (ad 13), .int xs3, .ref (ad 0)] (mh ad st h0) 0 0 := by
  intro n x3 x4 x5 x6 x7 x8 x9 xs0 xs1 xs3 st hf
  rw [S_X6_seenFrom_j120] at hf
  obtain ⟨q13, eq13, hf⟩ := Option.bind_eq_some_iff.mp hf
  refine aw_callV (rest := [.int xs3, .ref (ad 0)]) (C_X6_cellAt hok hl eq13) (mg_o hok) rfl rfl nX6_cellAt q1892 q1894 qs67 q137 q1895 dX6_seenFrom_120 rfl (by decide) (by decide) (Nat.le_of_ble_eq_true rfl) (Nat.le_refl _) (Nat.le_refl _) (aP1_i ?_) aP1_x
  refine aw_iadd dX6_seenFrom_123 ?_
  obtain ⟨j14, z15, ej14, hf⟩ := ob_s hf
  refine aw_ialdj (mg_0 hok) z15 ej14 dX6_seenFrom_124 ?_
  refine aw_topi (fun v16 ev16 => ?_)
  have hf := onm_a ev16 hf
  refine aw_istore (lv' := [(10, .int v16), (0, .ref (ad 13)), (3, .int x3), (4, .int x4), (5, .int x5), (6, .int x6), (7, .int x7), (8, .int x8), (9, .int x9)]) dX6_seenFrom_125 (Nat.le_of_ble_eq_true rfl) rfl ?_
  refine aw_iload 7 dX6_seenFrom_127 rfl ?_
  refine aw_if_eq 145 dX6_seenFrom_129 (by decide) (fun c17 => ?_) (fun c17 => ?_)
  · have hf := it_t c17 hf
    refine aw_iconst (v := 0) dX6_seenFrom_145 (by decide) ?_
    refine aw_sub [1, 2, 3, 4, 5, 6, 8, 0] rfl ?_
    exact A_X6_seenFrom_j146 hok hl hK89 n x3 x4 x5 x6 x7 x9 v16 0 st hf
  · have hf := it_f c17 hf
    refine aw_aload_n 1 dX6_seenFrom_132 rfl rfl ?_
    refine aw_iload 0 dX6_seenFrom_133 rfl ?_
    obtain ⟨q18, eq18, hf⟩ := Option.bind_eq_some_iff.mp hf
    refine aw_callV (rest := []) (C_X6_isSettled hok hl eq18) (mg_o hok) rfl rfl nX6_isSettled q1994 q1996 qs76 q137 q1997 dX6_seenFrom_135 rfl (by decide) (by decide) (Nat.le_of_ble_eq_true rfl) (Nat.le_refl _) (Nat.le_refl _) (aP1_i ?_) aP1_x
    refine aw_if_eq 145 dX6_seenFrom_138 (by decide) (fun c19 => ?_) (fun c19 => ?_)
    · have hf := it_t c19 hf
      refine aw_iconst (v := 0) dX6_seenFrom_145 (by decide) ?_
      refine aw_sub [1, 2, 3, 4, 5, 6, 8, 0] rfl ?_
      exact A_X6_seenFrom_j146 hok hl hK89 n x3 x4 x5 x6 x7 x9 v16 0 st hf
    · have hf := it_f c19 hf
      refine aw_iconst (v := 1) dX6_seenFrom_141 (by decide) ?_
      refine aw_goto 146 dX6_seenFrom_142 (by decide) ?_
      refine aw_sub [1, 2, 3, 4, 5, 6, 8, 0] rfl ?_
      exact A_X6_seenFrom_j146 hok hl hK89 n x3 x4 x5 x6 x7 x9 v16 1 st hf
def S_X6_seenFrom_c89 (K188 : Int32 → Int32 → MSt → Option (Int32 × MSt)) : Nat → Int32 → Int32 → Int32 → Int32 → Int32 → Int32 → Int32 → MSt → Option (Int32 × MSt)
  | 0, _, _, _, _, _, _, _, _ => none
  | n + 1, x3, x4, x5, x6, x7, x8, x9, st =>
    if x3 ≤ x9 then
      K188 x7 x8 st
    else
      if x5 = 0 then
        S_X6_seenFrom_j120 (S_X6_seenFrom_c89 K188 n) n x3 x4 x5 x6 x7 x8 x9 x9 x4 23 st
      else
        S_X6_seenFrom_j120 (S_X6_seenFrom_c89 K188 n) n x3 x4 x5 x6 x7 x8 x9 ((x3 - (1 : Int32)) - x9) x4 23 st
set_option maxHeartbeats 2000000 in
theorem A_X6_seenFrom_c89 {l : Launch} {G : aG} {ad : Nat → Nat} {h0 : aH} (hok : mOk ad) (hl : l.stackTraces = false) {r : Int32 × MSt} {K188 : Int32 → Int32 → MSt → Option (Int32 × MSt)} (hK188 : ∀ (w7 : Int32) (w8 : Int32) (st : MSt), K188 w7 w8 st = some r → AW l G mX6_seenFrom 2 0 0 (aP1 (some (.int r.1)) (mh ad r.2 h0)) 188 [(7, .int w7), (8, .int w8)] [] (mh ad st h0) 0 0) : ∀ (n : Nat) (x3 : Int32) (x4 : Int32) (x5 : Int32) (x6 : Int32) (x7 : Int32) (x8 : Int32) (x9 : Int32) (st : MSt), S_X6_seenFrom_c89 K188 n x3 x4 x5 x6 x7 x8 x9 st = some r → AW l G mX6_seenFrom 2 0 0 (aP1 (some (.int r.1)) (mh ad r.2 h0)) 89 [(0, .ref (ad 13)), (3, .int x3), (4, .int x4), (5, .int x5), (6, .int x6), (7, .int x7), (8, .int x8), (9, .int x9)] [] (mh ad st h0) 0 0 := by
  intro n
  induction n with
  | zero =>
    intro x3 x4 x5 x6 x7 x8 x9 st hf
    rw [S_X6_seenFrom_c89] at hf
    cases hf
  | succ n ih =>
    intro x3 x4 x5 x6 x7 x8 x9 st hf
    rw [S_X6_seenFrom_c89] at hf
    refine aw_iload 7 dX6_seenFrom_89 rfl ?_
    refine aw_iload_n 1 dX6_seenFrom_91 rfl rfl ?_
    refine aw_icmp_ge 188 dX6_seenFrom_92 (by decide) (fun c11 => ?_) (fun c11 => ?_)
    · have hf := it_t c11 hf
      refine aw_sub [5, 6] rfl ?_
      exact hK188 x7 x8 st hf
    · have hf := it_f c11 hf
      refine aw_aload_n 0 dX6_seenFrom_95 rfl rfl ?_
      refine aw_get (v := .ref (ad 0)) (mg_o hok) rfl in_X6 0 (by decide) q1739 (Or.inl rfl) rfl dX6_seenFrom_96 ?_
      refine aw_bipush (v := 23) dX6_seenFrom_99 (by decide) ?_
      refine aw_aload_n 0 dX6_seenFrom_101 rfl rfl ?_
      refine aw_iload 2 dX6_seenFrom_102 rfl ?_
      refine aw_iload 3 dX6_seenFrom_104 rfl ?_
      refine aw_if_eq 118 dX6_seenFrom_106 (by decide) (fun c12 => ?_) (fun c12 => ?_)
      · have hf := it_t c12 hf
        refine aw_iload 7 dX6_seenFrom_118 rfl ?_
        exact A_X6_seenFrom_j120 hok hl (fun w3 w4 w5 w6 w7 w8 w9 wst hf => ih w3 w4 w5 w6 w7 w8 w9 wst hf) n x3 x4 x5 x6 x7 x8 x9 x9 x4 23 st hf
      · have hf := it_f c12 hf
        refine aw_iload_n 1 dX6_seenFrom_109 rfl rfl ?_
        refine aw_iconst (v := 1) dX6_seenFrom_110 (by decide) ?_
        refine aw_isub dX6_seenFrom_111 ?_
        refine aw_iload 7 dX6_seenFrom_112 rfl ?_
        refine aw_isub dX6_seenFrom_114 ?_
        refine aw_goto 120 dX6_seenFrom_115 (by decide) ?_
        exact A_X6_seenFrom_j120 hok hl (fun w3 w4 w5 w6 w7 w8 w9 wst hf => ih w3 w4 w5 w6 w7 w8 w9 wst hf) n x3 x4 x5 x6 x7 x8 x9 ((x3 - (1 : Int32)) - x9) x4 23 st hf
def S_X6_seenFrom_j54 (n : Nat) (x1 : Int32) (x2 : Int32) (x3 : Int32) (xs0 : Int32) (st : MSt) : Option (Int32 × MSt) :=
  odz x3 <|
  if (x1 / x3) = 1 then
    S_X6_seenFrom_c89
      (fun y11_7 y11_8 u12 => 
          if y11_8 = 0 then
            some ((-1), u12)
          else
            some (y11_7, u12))
       n x3 xs0 1 x2 ((-1)) 1 0 st
  else
    odz x3 <|
    if (x1 / x3) = 2 then
      S_X6_seenFrom_c89
        (fun y19_7 y19_8 u20 => 
            if y19_8 = 0 then
              some ((-1), u20)
            else
              some (y19_7, u20))
         n x3 xs0 1 x2 ((-1)) 1 0 st
    else
      S_X6_seenFrom_c89
        (fun y16_7 y16_8 u17 => 
            if y16_8 = 0 then
              some ((-1), u17)
            else
              some (y16_7, u17))
         n x3 xs0 0 x2 ((-1)) 1 0 st
set_option maxHeartbeats 2000000 in
theorem A_X6_seenFrom_j54 {l : Launch} {G : aG} {ad : Nat → Nat} {h0 : aH} (hok : mOk ad) (hl : l.stackTraces = false) {r : Int32 × MSt} : ∀ (n : Nat) (x1 : Int32) (x2 : Int32) (x3 : Int32) (xs0 : Int32) (st : MSt), S_X6_seenFrom_j54 n x1 x2 x3 xs0 st = some r → AW l G mX6_seenFrom 2 0 0 (aP1 (some (.int r.1)) (mh ad r.2 h0)) 54 [(0, .ref (ad 13)), (1, .int x1), (2, .int x2), (3, .int x3)] [.int xs0] (mh ad st h0) 0 0 := by
  intro n x1 x2 x3 xs0 st hf
  rw [S_X6_seenFrom_j54] at hf
  refine aw_istore (lv' := [(4, .int xs0), (0, .ref (ad 13)), (1, .int x1), (2, .int x2), (3, .int x3)]) dX6_seenFrom_54 (Nat.le_of_ble_eq_true rfl) rfl ?_
  refine aw_iload_n 2 dX6_seenFrom_56 rfl rfl ?_
  refine aw_iload_n 4 dX6_seenFrom_57 rfl rfl ?_
  obtain ⟨z9, hf⟩ := odz_s hf
  refine aw_idiv dX6_seenFrom_58 z9 ?_
  refine aw_iconst (v := 1) dX6_seenFrom_59 (by decide) ?_
  refine aw_icmp_eq 70 dX6_seenFrom_60 (by decide) (fun c10 => ?_) (fun c10 => ?_)
  · have hf := it_t c10 hf
    refine aw_iconst (v := 1) dX6_seenFrom_70 (by decide) ?_
    refine aw_goto 75 dX6_seenFrom_71 (by decide) ?_
    refine aw_istore (lv' := [(5, .int 1), (4, .int xs0), (0, .ref (ad 13)), (1, .int x1), (2, .int x2), (3, .int x3)]) dX6_seenFrom_75 (Nat.le_of_ble_eq_true rfl) rfl ?_
    refine aw_iload_n 4 dX6_seenFrom_77 rfl rfl ?_
    refine aw_istore (lv' := [(6, .int x2), (5, .int 1), (4, .int xs0), (0, .ref (ad 13)), (1, .int x1), (2, .int x2), (3, .int x3)]) dX6_seenFrom_78 (Nat.le_of_ble_eq_true rfl) rfl ?_
    refine aw_iconst (v := (-1)) dX6_seenFrom_80 (by decide) ?_
    refine aw_istore (lv' := [(7, .int ((-1))), (6, .int x2), (5, .int 1), (4, .int xs0), (0, .ref (ad 13)), (1, .int x1), (2, .int x2), (3, .int x3)]) dX6_seenFrom_81 (Nat.le_of_ble_eq_true rfl) rfl ?_
    refine aw_iconst (v := 1) dX6_seenFrom_83 (by decide) ?_
    refine aw_istore (lv' := [(8, .int 1), (7, .int ((-1))), (6, .int x2), (5, .int 1), (4, .int xs0), (0, .ref (ad 13)), (1, .int x1), (2, .int x2), (3, .int x3)]) dX6_seenFrom_84 (Nat.le_of_ble_eq_true rfl) rfl ?_
    refine aw_iconst (v := 0) dX6_seenFrom_86 (by decide) ?_
    refine aw_istore (lv' := [(9, .int 0), (8, .int 1), (7, .int ((-1))), (6, .int x2), (5, .int 1), (4, .int xs0), (0, .ref (ad 13)), (1, .int x1), (2, .int x2), (3, .int x3)]) dX6_seenFrom_87 (Nat.le_of_ble_eq_true rfl) rfl ?_
    refine aw_sub [6, 9, 5, 4, 3, 2, 1, 0] rfl ?_
    refine A_X6_seenFrom_c89 hok hl ?_ n x3 xs0 1 x2 ((-1)) 1 0 st hf
    · intro y11_7 y11_8 u12 hf
      refine aw_iload 1 dX6_seenFrom_188 rfl ?_
      refine aw_if_eq 198 dX6_seenFrom_190 (by decide) (fun c13 => ?_) (fun c13 => ?_)
      · have hf := it_t c13 hf
        refine aw_iconst (v := (-1)) dX6_seenFrom_198 (by decide) ?_
        cases hf
        exact aw_iret rfl dX6_seenFrom_199 aP1_rfl (Nat.le_refl _) (Nat.le_refl _)
      · have hf := it_f c13 hf
        refine aw_iload 0 dX6_seenFrom_193 rfl ?_
        refine aw_goto 199 dX6_seenFrom_195 (by decide) ?_
        cases hf
        exact aw_iret rfl dX6_seenFrom_199 aP1_rfl (Nat.le_refl _) (Nat.le_refl _)
  · have hf := it_f c10 hf
    refine aw_iload_n 2 dX6_seenFrom_63 rfl rfl ?_
    refine aw_iload_n 4 dX6_seenFrom_64 rfl rfl ?_
    obtain ⟨z14, hf⟩ := odz_s hf
    refine aw_idiv dX6_seenFrom_65 z14 ?_
    refine aw_iconst (v := 2) dX6_seenFrom_66 (by decide) ?_
    refine aw_icmp_ne 74 dX6_seenFrom_67 (by decide) (fun c15 => ?_) (fun c15 => ?_)
    · have hf := it_f c15 hf
      refine aw_iconst (v := 0) dX6_seenFrom_74 (by decide) ?_
      refine aw_istore (lv' := [(5, .int 0), (4, .int xs0), (0, .ref (ad 13)), (1, .int x1), (2, .int x2), (3, .int x3)]) dX6_seenFrom_75 (Nat.le_of_ble_eq_true rfl) rfl ?_
      refine aw_iload_n 4 dX6_seenFrom_77 rfl rfl ?_
      refine aw_istore (lv' := [(6, .int x2), (5, .int 0), (4, .int xs0), (0, .ref (ad 13)), (1, .int x1), (2, .int x2), (3, .int x3)]) dX6_seenFrom_78 (Nat.le_of_ble_eq_true rfl) rfl ?_
      refine aw_iconst (v := (-1)) dX6_seenFrom_80 (by decide) ?_
      refine aw_istore (lv' := [(7, .int ((-1))), (6, .int x2), (5, .int 0), (4, .int xs0), (0, .ref (ad 13)), (1, .int x1), (2, .int x2), (3, .int x3)]) dX6_seenFrom_81 (Nat.le_of_ble_eq_true rfl) rfl ?_
      refine aw_iconst (v := 1) dX6_seenFrom_83 (by decide) ?_
      refine aw_istore (lv' := [(8, .int 1), (7, .int ((-1))), (6, .int x2), (5, .int 0), (4, .int xs0), (0, .ref (ad 13)), (1, .int x1), (2, .int x2), (3, .int x3)]) dX6_seenFrom_84 (Nat.le_of_ble_eq_true rfl) rfl ?_
      refine aw_iconst (v := 0) dX6_seenFrom_86 (by decide) ?_
      refine aw_istore (lv' := [(9, .int 0), (8, .int 1), (7, .int ((-1))), (6, .int x2), (5, .int 0), (4, .int xs0), (0, .ref (ad 13)), (1, .int x1), (2, .int x2), (3, .int x3)]) dX6_seenFrom_87 (Nat.le_of_ble_eq_true rfl) rfl ?_
      refine aw_sub [6, 9, 5, 4, 3, 2, 1, 0] rfl ?_
      refine A_X6_seenFrom_c89 hok hl ?_ n x3 xs0 0 x2 ((-1)) 1 0 st hf
      · intro y16_7 y16_8 u17 hf
        refine aw_iload 1 dX6_seenFrom_188 rfl ?_
        refine aw_if_eq 198 dX6_seenFrom_190 (by decide) (fun c18 => ?_) (fun c18 => ?_)
        · have hf := it_t c18 hf
          refine aw_iconst (v := (-1)) dX6_seenFrom_198 (by decide) ?_
          cases hf
          exact aw_iret rfl dX6_seenFrom_199 aP1_rfl (Nat.le_refl _) (Nat.le_refl _)
        · have hf := it_f c18 hf
          refine aw_iload 0 dX6_seenFrom_193 rfl ?_
          refine aw_goto 199 dX6_seenFrom_195 (by decide) ?_
          cases hf
          exact aw_iret rfl dX6_seenFrom_199 aP1_rfl (Nat.le_refl _) (Nat.le_refl _)
    · have hf := it_t c15 hf
      refine aw_iconst (v := 1) dX6_seenFrom_70 (by decide) ?_
      refine aw_goto 75 dX6_seenFrom_71 (by decide) ?_
      refine aw_istore (lv' := [(5, .int 1), (4, .int xs0), (0, .ref (ad 13)), (1, .int x1), (2, .int x2), (3, .int x3)]) dX6_seenFrom_75 (Nat.le_of_ble_eq_true rfl) rfl ?_
      refine aw_iload_n 4 dX6_seenFrom_77 rfl rfl ?_
      refine aw_istore (lv' := [(6, .int x2), (5, .int 1), (4, .int xs0), (0, .ref (ad 13)), (1, .int x1), (2, .int x2), (3, .int x3)]) dX6_seenFrom_78 (Nat.le_of_ble_eq_true rfl) rfl ?_
      refine aw_iconst (v := (-1)) dX6_seenFrom_80 (by decide) ?_
      refine aw_istore (lv' := [(7, .int ((-1))), (6, .int x2), (5, .int 1), (4, .int xs0), (0, .ref (ad 13)), (1, .int x1), (2, .int x2), (3, .int x3)]) dX6_seenFrom_81 (Nat.le_of_ble_eq_true rfl) rfl ?_
      refine aw_iconst (v := 1) dX6_seenFrom_83 (by decide) ?_
      refine aw_istore (lv' := [(8, .int 1), (7, .int ((-1))), (6, .int x2), (5, .int 1), (4, .int xs0), (0, .ref (ad 13)), (1, .int x1), (2, .int x2), (3, .int x3)]) dX6_seenFrom_84 (Nat.le_of_ble_eq_true rfl) rfl ?_
      refine aw_iconst (v := 0) dX6_seenFrom_86 (by decide) ?_
      refine aw_istore (lv' := [(9, .int 0), (8, .int 1), (7, .int ((-1))), (6, .int x2), (5, .int 1), (4, .int xs0), (0, .ref (ad 13)), (1, .int x1), (2, .int x2), (3, .int x3)]) dX6_seenFrom_87 (Nat.le_of_ble_eq_true rfl) rfl ?_
      refine aw_sub [6, 9, 5, 4, 3, 2, 1, 0] rfl ?_
      refine A_X6_seenFrom_c89 hok hl ?_ n x3 xs0 1 x2 ((-1)) 1 0 st hf
      · intro y19_7 y19_8 u20 hf
        refine aw_iload 1 dX6_seenFrom_188 rfl ?_
        refine aw_if_eq 198 dX6_seenFrom_190 (by decide) (fun c21 => ?_) (fun c21 => ?_)
        · have hf := it_t c21 hf
          refine aw_iconst (v := (-1)) dX6_seenFrom_198 (by decide) ?_
          cases hf
          exact aw_iret rfl dX6_seenFrom_199 aP1_rfl (Nat.le_refl _) (Nat.le_refl _)
        · have hf := it_f c21 hf
          refine aw_iload 0 dX6_seenFrom_193 rfl ?_
          refine aw_goto 199 dX6_seenFrom_195 (by decide) ?_
          cases hf
          exact aw_iret rfl dX6_seenFrom_199 aP1_rfl (Nat.le_refl _) (Nat.le_refl _)
def S_X6_seenFrom_j18 (n : Nat) (x1 : Int32) (x2 : Int32) (xs0 : Int32) (st : MSt) : Option (Int32 × MSt) :=
  (S_X6_goes xs0 1 1 st).bind fun q3 =>
  if q3.1 = 0 then
    some (0, q3.2)
  else
    onm (q3.2.2.1 0 0) fun v5 =>
    odz v5 <|
    if ((x1 / v5) - (x1 / v5) / 2 * 2) = 0 then
      odz v5 <|
      S_X6_seenFrom_j54 n x1 x2 v5 (v5 + (x1 - x1 / v5 * v5)) q3.2
    else
      odz v5 <|
      S_X6_seenFrom_j54 n x1 x2 v5 (x1 - x1 / v5 * v5) q3.2
set_option maxHeartbeats 2000000 in
theorem A_X6_seenFrom_j18 {l : Launch} {G : aG} {ad : Nat → Nat} {h0 : aH} (hok : mOk ad) (hl : l.stackTraces = false) {r : Int32 × MSt} : ∀ (n : Nat) (x1 : Int32) (x2 : Int32) (xs0 : Int32) (st : MSt), S_X6_seenFrom_j18 n x1 x2 xs0 st = some r → AW l G mX6_seenFrom 2 0 0 (aP1 (some (.int r.1)) (mh ad r.2 h0)) 18 [(0, .ref (ad 13)), (1, .int x1), (2, .int x2)] [.int xs0, .ref (ad 13)] (mh ad st h0) 0 0 := by
  intro n x1 x2 xs0 st hf
  rw [S_X6_seenFrom_j18] at hf
  refine aw_iconst (v := 1) dX6_seenFrom_18 (by decide) ?_
  refine aw_iconst (v := 1) dX6_seenFrom_19 (by decide) ?_
  obtain ⟨q3, eq3, hf⟩ := Option.bind_eq_some_iff.mp hf
  refine aw_callV (rest := []) (C_X6_goes hok hl eq3) (mg_o hok) rfl rfl nX6_goes q1825 q1827 qs55 q137 q1828 dX6_seenFrom_20 rfl (by decide) (by decide) (Nat.le_of_ble_eq_true rfl) (Nat.le_refl _) (Nat.le_refl _) (aP1_i ?_) aP1_x
  refine aw_if_ne 28 dX6_seenFrom_23 (by decide) (fun c4 => ?_) (fun c4 => ?_)
  · have hf := it_f c4 hf
    refine aw_aload_n 0 dX6_seenFrom_28 rfl rfl ?_
    refine aw_get (v := .ref (ad 0)) (mg_o hok) rfl in_X6 0 (by decide) q1739 (Or.inl rfl) rfl dX6_seenFrom_29 ?_
    refine aw_iconst (v := 0) dX6_seenFrom_32 (by decide) ?_
    refine aw_ialdj (j := 0) (mg_0 hok) (vpc (by decide)) (by decide) dX6_seenFrom_33 ?_
    refine aw_topi (fun v5 ev5 => ?_)
    have hf := onm_a ev5 hf
    refine aw_istore_n (lv' := [(3, .int v5), (0, .ref (ad 13)), (1, .int x1), (2, .int x2)]) dX6_seenFrom_34 rfl (Nat.le_of_ble_eq_true rfl) rfl ?_
    refine aw_iload_n 2 dX6_seenFrom_35 rfl rfl ?_
    refine aw_iload_n 0 dX6_seenFrom_36 rfl rfl ?_
    obtain ⟨z6, hf⟩ := odz_s hf
    refine aw_idiv dX6_seenFrom_37 z6 ?_
    refine aw_iconst (v := 2) dX6_seenFrom_38 (by decide) ?_
    refine aw_irem dX6_seenFrom_39 (by decide) ?_
    refine aw_if_ne 51 dX6_seenFrom_40 (by decide) (fun c7 => ?_) (fun c7 => ?_)
    · have hf := it_f c7 hf
      refine aw_iload_n 2 dX6_seenFrom_51 rfl rfl ?_
      refine aw_iload_n 0 dX6_seenFrom_52 rfl rfl ?_
      obtain ⟨z8, hf⟩ := odz_s hf
      refine aw_irem dX6_seenFrom_53 z8 ?_
      refine aw_sub [1, 2, 3, 0] rfl ?_
      exact A_X6_seenFrom_j54 hok hl n x1 x2 v5 (x1 - x1 / v5 * v5) q3.2 hf
    · have hf := it_t c7 hf
      refine aw_iload_n 0 dX6_seenFrom_43 rfl rfl ?_
      refine aw_iload_n 2 dX6_seenFrom_44 rfl rfl ?_
      refine aw_iload_n 0 dX6_seenFrom_45 rfl rfl ?_
      obtain ⟨z9, hf⟩ := odz_s hf
      refine aw_irem dX6_seenFrom_46 z9 ?_
      refine aw_iadd dX6_seenFrom_47 ?_
      refine aw_goto 54 dX6_seenFrom_48 (by decide) ?_
      refine aw_sub [1, 2, 3, 0] rfl ?_
      exact A_X6_seenFrom_j54 hok hl n x1 x2 v5 (v5 + (x1 - x1 / v5 * v5)) q3.2 hf
  · have hf := it_t c4 hf
    refine aw_iconst (v := 0) dX6_seenFrom_26 (by decide) ?_
    cases hf
    exact aw_iret rfl dX6_seenFrom_27 aP1_rfl (Nat.le_refl _) (Nat.le_refl _)
def S_X6_seenFrom (n : Nat) (x1 : Int32) (x2 : Int32) (st : MSt) : Option (Int32 × MSt) :=
  (S_X6_isEdge x1 st).bind fun q1 =>
  if q1 = 0 then
    S_X6_seenFrom_j18 n x1 x2 0 st
  else
    if x2 < 0 then
      S_X6_seenFrom_j18 n x1 x2 0 st
    else
      S_X6_seenFrom_j18 n x1 x2 1 st
set_option maxHeartbeats 2000000 in
theorem C_X6_seenFrom {l : Launch} {G : aG} {ad : Nat → Nat} {h0 : aH} (hok : mOk ad) (hl : l.stackTraces = false) {n : Nat} {x1 : Int32} {x2 : Int32} {st : MSt} {r : Int32 × MSt} (hf : S_X6_seenFrom n x1 x2 st = some r) : aC l G mX6_seenFrom (ws_ yX6_seenFrom cX6_seenFrom 11 (some .int)) 2 0 0 [.ref (ad 13), .int x1, .int x2] (mh ad st h0) (aP1 (some (.int r.1)) (mh ad r.2 h0)) := by
  refine aC_of (M := mX6_seenFrom) rfl (by decide) (Nat.le_of_ble_eq_true rfl) hl ?_
  rw [S_X6_seenFrom] at hf
  refine aw_eqv (lv2 := [(0, .ref (ad 13)), (1, .int x1), (2, .int x2)]) rfl rfl rfl rfl ?_
  refine aw_aload_n 0 dX6_seenFrom_0 rfl rfl ?_
  refine aw_aload_n 0 dX6_seenFrom_1 rfl rfl ?_
  refine aw_iload_n 1 dX6_seenFrom_2 rfl rfl ?_
  obtain ⟨q1, eq1, hf⟩ := Option.bind_eq_some_iff.mp hf
  refine aw_callV (rest := [.ref (ad 13)]) (C_X6_isEdge hok hl eq1) (mg_o hok) rfl rfl nX6_isEdge q1845 q1847 qs58 q137 q1848 dX6_seenFrom_3 rfl (by decide) (by decide) (Nat.le_of_ble_eq_true rfl) (Nat.le_refl _) (Nat.le_refl _) (aP1_i ?_) aP1_x
  refine aw_if_eq 17 dX6_seenFrom_6 (by decide) (fun c2 => ?_) (fun c2 => ?_)
  · have hf := it_t c2 hf
    refine aw_iconst (v := 0) dX6_seenFrom_17 (by decide) ?_
    exact A_X6_seenFrom_j18 hok hl n x1 x2 0 st hf
  · have hf := it_f c2 hf
    refine aw_iload_n 2 dX6_seenFrom_9 rfl rfl ?_
    refine aw_if_lt 17 dX6_seenFrom_10 (by decide) (fun c10 => ?_) (fun c10 => ?_)
    · have hf := it_t c10 hf
      refine aw_iconst (v := 0) dX6_seenFrom_17 (by decide) ?_
      exact A_X6_seenFrom_j18 hok hl n x1 x2 0 st hf
    · have hf := it_f c10 hf
      refine aw_iconst (v := 1) dX6_seenFrom_13 (by decide) ?_
      refine aw_goto 18 dX6_seenFrom_14 (by decide) ?_
      exact A_X6_seenFrom_j18 hok hl n x1 x2 1 st hf
abbrev mX6_linesOf : aM := (yX6_linesOf, cX6_linesOf, 6, some .int, [])
theorem nX6_linesOf : aNoMH yX6_linesOf 1 := by decide +kernel
def S_X6_linesOf_j55 (st : MSt) (x2 : Int32) (x3 : Int32) (x4 : Int32) (xs0 : Int32) (xs1 : Int32) : Option (Int32) :=
  onm (xs1 ||| xs0) fun v8 =>
  if (st.2.1 0 2) = 1 then
    if (x3 + x4) = (x2 - (1 : Int32)) then
      some (v8 ||| ((2 : Int32) <<< (((2 : Int32) * x2) &&& 31)))
    else
      some (v8 ||| (0 : Int32))
  else
    some (v8 ||| (0 : Int32))
set_option maxHeartbeats 2000000 in
theorem A_X6_linesOf_j55 {l : Launch} {G : aG} {ad : Nat → Nat} {h0 : aH} (hok : mOk ad) (hl : l.stackTraces = false) {r : Int32} {st : MSt} : ∀ (x2 : Int32) (x3 : Int32) (x4 : Int32) (xs0 : Int32) (xs1 : Int32), S_X6_linesOf_j55 st x2 x3 x4 xs0 xs1 = some r → AW l G mX6_linesOf 0 0 0 (aP1 (some (.int r)) (mh ad st h0)) 55 [(0, .ref (ad 13)), (2, .int x2), (3, .int x3), (4, .int x4)] [.int xs0, .int xs1] (mh ad st h0) 0 0 := by
  intro x2 x3 x4 xs0 xs1 hf
  rw [S_X6_linesOf_j55] at hf
  refine aw_ior dX6_linesOf_55 ?_
  refine aw_topi (fun v8 ev8 => ?_)
  have hf := onm_a ev8 hf
  refine aw_istore (lv' := [(5, .int v8), (0, .ref (ad 13)), (2, .int x2), (3, .int x3), (4, .int x4)]) dX6_linesOf_56 (Nat.le_of_ble_eq_true rfl) rfl ?_
  refine aw_iload 0 dX6_linesOf_58 rfl ?_
  refine aw_aload_n 1 dX6_linesOf_60 rfl rfl ?_
  refine aw_get (v := .ref (ad 0)) (mg_o hok) rfl in_X6 0 (by decide) q1739 (Or.inl rfl) rfl dX6_linesOf_61 ?_
  refine aw_iconst (v := 2) dX6_linesOf_64 (by decide) ?_
  refine aw_ialdj (j := 2) (mg_0 hok) (vpc (by decide)) (by decide) dX6_linesOf_65 ?_
  refine aw_iconst (v := 1) dX6_linesOf_66 (by decide) ?_
  refine aw_icmp_ne 88 dX6_linesOf_67 (by decide) (fun c9 => ?_) (fun c9 => ?_)
  · have hf := it_f c9 hf
    refine aw_iconst (v := 0) dX6_linesOf_88 (by decide) ?_
    refine aw_ior dX6_linesOf_89 ?_
    cases hf
    exact aw_iret rfl dX6_linesOf_90 aP1_rfl (Nat.le_refl _) (Nat.le_refl _)
  · have hf := it_t c9 hf
    refine aw_iload_n 3 dX6_linesOf_70 rfl rfl ?_
    refine aw_iload 4 dX6_linesOf_71 rfl ?_
    refine aw_iadd dX6_linesOf_73 ?_
    refine aw_iload_n 2 dX6_linesOf_74 rfl rfl ?_
    refine aw_iconst (v := 1) dX6_linesOf_75 (by decide) ?_
    refine aw_isub dX6_linesOf_76 ?_
    refine aw_icmp_ne 88 dX6_linesOf_77 (by decide) (fun c10 => ?_) (fun c10 => ?_)
    · have hf := it_f c10 hf
      refine aw_iconst (v := 0) dX6_linesOf_88 (by decide) ?_
      refine aw_ior dX6_linesOf_89 ?_
      cases hf
      exact aw_iret rfl dX6_linesOf_90 aP1_rfl (Nat.le_refl _) (Nat.le_refl _)
    · have hf := it_t c10 hf
      refine aw_iconst (v := 2) dX6_linesOf_80 (by decide) ?_
      refine aw_iconst (v := 2) dX6_linesOf_81 (by decide) ?_
      refine aw_iload_n 2 dX6_linesOf_82 rfl rfl ?_
      refine aw_imul dX6_linesOf_83 ?_
      refine aw_ishl dX6_linesOf_84 ?_
      refine aw_goto 89 dX6_linesOf_85 (by decide) ?_
      refine aw_ior dX6_linesOf_89 ?_
      cases hf
      exact aw_iret rfl dX6_linesOf_90 aP1_rfl (Nat.le_refl _) (Nat.le_refl _)
def S_X6_linesOf (x1 : Int32) (st : MSt) : Option (Int32) :=
  onm (st.2.1 0 0) fun v1 =>
  odz v1 <|
  onm (x1 / v1) fun v3 =>
  odz v1 <|
  onm (x1 - x1 / v1 * v1) fun v5 =>
  onm (((1 : Int32) <<< (v3 &&& 31)) ||| ((1 : Int32) <<< ((v1 + v5) &&& 31))) fun v6 =>
  if (st.2.1 0 2) = 1 then
    if v3 = v5 then
      S_X6_linesOf_j55 st v1 v3 v5 ((1 : Int32) <<< (((2 : Int32) * v1) &&& 31)) v6
    else
      S_X6_linesOf_j55 st v1 v3 v5 0 v6
  else
    S_X6_linesOf_j55 st v1 v3 v5 0 v6
set_option maxHeartbeats 2000000 in
theorem C_X6_linesOf {l : Launch} {G : aG} {ad : Nat → Nat} {h0 : aH} (hok : mOk ad) (hl : l.stackTraces = false) {x1 : Int32} {st : MSt} {r : Int32} (hf : S_X6_linesOf x1 st = some r) : aC l G mX6_linesOf (ws_ yX6_linesOf cX6_linesOf 6 (some .int)) 0 0 0 [.ref (ad 13), .int x1] (mh ad st h0) (aP1 (some (.int r)) (mh ad st h0)) := by
  refine aC_of (M := mX6_linesOf) rfl (by decide) (Nat.le_of_ble_eq_true rfl) hl ?_
  rw [S_X6_linesOf] at hf
  refine aw_eqv (lv2 := [(0, .ref (ad 13)), (1, .int x1)]) rfl rfl rfl rfl ?_
  refine aw_aload_n 0 dX6_linesOf_0 rfl rfl ?_
  refine aw_get (v := .ref (ad 0)) (mg_o hok) rfl in_X6 0 (by decide) q1739 (Or.inl rfl) rfl dX6_linesOf_1 ?_
  refine aw_iconst (v := 0) dX6_linesOf_4 (by decide) ?_
  refine aw_ialdj (j := 0) (mg_0 hok) (vpc (by decide)) (by decide) dX6_linesOf_5 ?_
  refine aw_topi (fun v1 ev1 => ?_)
  have hf := onm_a ev1 hf
  refine aw_istore_n (lv' := [(2, .int v1), (0, .ref (ad 13)), (1, .int x1)]) dX6_linesOf_6 rfl (Nat.le_of_ble_eq_true rfl) rfl ?_
  refine aw_iload_n 2 dX6_linesOf_7 rfl rfl ?_
  refine aw_iload_n 0 dX6_linesOf_8 rfl rfl ?_
  obtain ⟨z2, hf⟩ := odz_s hf
  refine aw_idiv dX6_linesOf_9 z2 ?_
  refine aw_topi (fun v3 ev3 => ?_)
  have hf := onm_a ev3 hf
  refine aw_istore_n (lv' := [(3, .int v3), (2, .int v1), (0, .ref (ad 13)), (1, .int x1)]) dX6_linesOf_10 rfl (Nat.le_of_ble_eq_true rfl) rfl ?_
  refine aw_iload_n 3 dX6_linesOf_11 rfl rfl ?_
  refine aw_iload_n 1 dX6_linesOf_12 rfl rfl ?_
  obtain ⟨z4, hf⟩ := odz_s hf
  refine aw_irem dX6_linesOf_13 z4 ?_
  refine aw_topi (fun v5 ev5 => ?_)
  have hf := onm_a ev5 hf
  refine aw_istore (lv' := [(4, .int v5), (3, .int v3), (2, .int v1), (0, .ref (ad 13)), (1, .int x1)]) dX6_linesOf_14 (Nat.le_of_ble_eq_true rfl) rfl ?_
  refine aw_iconst (v := 1) dX6_linesOf_16 (by decide) ?_
  refine aw_iload_n 1 dX6_linesOf_17 rfl rfl ?_
  refine aw_ishl dX6_linesOf_18 ?_
  refine aw_iconst (v := 1) dX6_linesOf_19 (by decide) ?_
  refine aw_iload_n 2 dX6_linesOf_20 rfl rfl ?_
  refine aw_iload 0 dX6_linesOf_21 rfl ?_
  refine aw_iadd dX6_linesOf_23 ?_
  refine aw_ishl dX6_linesOf_24 ?_
  refine aw_ior dX6_linesOf_25 ?_
  refine aw_topi (fun v6 ev6 => ?_)
  have hf := onm_a ev6 hf
  refine aw_istore (lv' := [(5, .int v6), (4, .int v5), (3, .int v3), (2, .int v1), (0, .ref (ad 13)), (1, .int x1)]) dX6_linesOf_26 (Nat.le_of_ble_eq_true rfl) rfl ?_
  refine aw_iload 0 dX6_linesOf_28 rfl ?_
  refine aw_aload_n 4 dX6_linesOf_30 rfl rfl ?_
  refine aw_get (v := .ref (ad 0)) (mg_o hok) rfl in_X6 0 (by decide) q1739 (Or.inl rfl) rfl dX6_linesOf_31 ?_
  refine aw_iconst (v := 2) dX6_linesOf_34 (by decide) ?_
  refine aw_ialdj (j := 2) (mg_0 hok) (vpc (by decide)) (by decide) dX6_linesOf_35 ?_
  refine aw_iconst (v := 1) dX6_linesOf_36 (by decide) ?_
  refine aw_icmp_ne 54 dX6_linesOf_37 (by decide) (fun c7 => ?_) (fun c7 => ?_)
  · have hf := it_f c7 hf
    refine aw_iconst (v := 0) dX6_linesOf_54 (by decide) ?_
    refine aw_sub [4, 3, 2, 1] rfl ?_
    exact A_X6_linesOf_j55 hok hl v1 v3 v5 0 v6 hf
  · have hf := it_t c7 hf
    refine aw_iload_n 2 dX6_linesOf_40 rfl rfl ?_
    refine aw_iload 1 dX6_linesOf_41 rfl ?_
    refine aw_icmp_ne 54 dX6_linesOf_43 (by decide) (fun c11 => ?_) (fun c11 => ?_)
    · have hf := it_f c11 hf
      refine aw_iconst (v := 0) dX6_linesOf_54 (by decide) ?_
      refine aw_sub [4, 3, 2, 1] rfl ?_
      exact A_X6_linesOf_j55 hok hl v1 v3 v5 0 v6 hf
    · have hf := it_t c11 hf
      refine aw_iconst (v := 1) dX6_linesOf_46 (by decide) ?_
      refine aw_iconst (v := 2) dX6_linesOf_47 (by decide) ?_
      refine aw_iload_n 3 dX6_linesOf_48 rfl rfl ?_
      refine aw_imul dX6_linesOf_49 ?_
      refine aw_ishl dX6_linesOf_50 ?_
      refine aw_goto 55 dX6_linesOf_51 (by decide) ?_
      refine aw_sub [4, 3, 2, 1] rfl ?_
      exact A_X6_linesOf_j55 hok hl v1 v3 v5 ((1 : Int32) <<< (((2 : Int32) * v1) &&& 31)) v6 hf
