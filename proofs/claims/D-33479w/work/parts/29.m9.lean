/-! the model: shallow functions and walks (printed by gen.py) -/
set_option maxRecDepth 100000
abbrev mX6_readsLetter : aM := (yX6_readsLetter, cX6_readsLetter, 3, some .boolean, [])
theorem nX6_readsLetter : aNoMH yX6_readsLetter 1 := by decide +kernel
def S_X6_readsLetter_j40 (xs0 : Int32) (st : MSt) : Option (Int32 × MSt) :=
  if xs0 = 0 then
    onm (mI st 6 ((-1))) fun u4 =>
    (S_X6_flag xs0).bind fun q5 =>
    onm (mI u4 3 ((u4.1 3) + q5)) fun u6 =>
    onr .boolean xs0 <|
    some (xs0, u6)
  else
    ob (st.1 3) 80 fun j8 =>
    onm (mI st 6 ((st.2.1 2 j8) - (65 : Int32))) fun u10 =>
    (S_X6_flag xs0).bind fun q11 =>
    onm (mI u10 3 ((u10.1 3) + q11)) fun u12 =>
    onr .boolean xs0 <|
    some (xs0, u12)
set_option maxHeartbeats 2000000 in
theorem A_X6_readsLetter_j40 {l : Launch} {G : aG} {ad : Nat → Nat} {h0 : aH} (hok : mOk ad) (hl : l.stackTraces = false) {r : Int32 × MSt} : ∀ (xs0 : Int32) (st : MSt), S_X6_readsLetter_j40 xs0 st = some r → AW l G mX6_readsLetter 1 0 0 (aP1 (some (.int r.1)) (mh ad r.2 h0)) 40 [(0, .ref (ad 13))] [.int xs0] (mh ad st h0) 0 0 := by
  intro xs0 st hf
  rw [S_X6_readsLetter_j40] at hf
  refine aw_istore_n (lv' := [(2, .int xs0), (0, .ref (ad 13))]) dX6_readsLetter_40 rfl (Nat.le_of_ble_eq_true rfl) rfl ?_
  refine aw_aload_n 1 dX6_readsLetter_41 rfl rfl ?_
  refine aw_iload_n 0 dX6_readsLetter_42 rfl rfl ?_
  refine aw_if_eq 61 dX6_readsLetter_43 (by decide) (fun c3 => ?_) (fun c3 => ?_)
  · have hf := it_t c3 hf
    refine aw_iconst (v := (-1)) dX6_readsLetter_61 (by decide) ?_
    refine aw_put (mg_o hok) rfl in_X6 tyX6_ok nmX6 9 (by decide) q1748 (Or.inl rfl) rfl rfl rfl (Nat.le_of_ble_eq_true rfl) (mu_i6 hok) dX6_readsLetter_62 ?_
    refine aw_st (fun u4 eu4 => ?_)
    have hf := onm_a eu4 hf
    refine aw_aload_n 1 dX6_readsLetter_65 rfl rfl ?_
    refine aw_dup dX6_readsLetter_66 rfl ?_
    refine aw_get (v := .int (u4.1 3)) (mg_o hok) rfl in_X6 6 (by decide) q1745 (Or.inl rfl) rfl dX6_readsLetter_67 ?_
    refine aw_iload_n 0 dX6_readsLetter_70 rfl rfl ?_
    obtain ⟨q5, eq5, hf⟩ := Option.bind_eq_some_iff.mp hf
    refine aw_callS (rest := [.int (u4.1 3), .ref (ad 13)]) (C_X6_flag hl eq5) nX6_flag q1865 q1866 q137 q1867 dX6_readsLetter_71 rfl (by decide) (by decide) (Nat.le_of_ble_eq_true rfl) (Nat.le_refl _) (Nat.le_refl _) (aP1_i ?_) aP1_x
    refine aw_iadd dX6_readsLetter_74 ?_
    refine aw_put (mg_o hok) rfl in_X6 tyX6_ok nmX6 6 (by decide) q1745 (Or.inl rfl) rfl rfl rfl (Nat.le_of_ble_eq_true rfl) (mu_i3 hok) dX6_readsLetter_75 ?_
    refine aw_st (fun u6 eu6 => ?_)
    have hf := onm_a eu6 hf
    refine aw_iload_n 0 dX6_readsLetter_78 rfl rfl ?_
    obtain ⟨z7, hf⟩ := onr_s hf
    cases hf
    exact aw_zret rfl z7 dX6_readsLetter_79 aP1_rfl (Nat.le_refl _) (Nat.le_refl _)
  · have hf := it_f c3 hf
    refine aw_aload_n 1 dX6_readsLetter_46 rfl rfl ?_
    refine aw_get (v := .ref (ad 2)) (mg_o hok) rfl in_X6 3 (by decide) q1742 (Or.inl rfl) rfl dX6_readsLetter_47 ?_
    refine aw_aload_n 1 dX6_readsLetter_50 rfl rfl ?_
    refine aw_get (v := .int (st.1 3)) (mg_o hok) rfl in_X6 6 (by decide) q1745 (Or.inl rfl) rfl dX6_readsLetter_51 ?_
    obtain ⟨j8, z9, ej8, hf⟩ := ob_s hf
    refine aw_caldj (mg_2 hok) z9 ej8 dX6_readsLetter_54 ?_
    refine aw_bipush (v := 65) dX6_readsLetter_55 (by decide) ?_
    refine aw_isub dX6_readsLetter_57 ?_
    refine aw_goto 62 dX6_readsLetter_58 (by decide) ?_
    refine aw_put (mg_o hok) rfl in_X6 tyX6_ok nmX6 9 (by decide) q1748 (Or.inl rfl) rfl rfl rfl (Nat.le_of_ble_eq_true rfl) (mu_i6 hok) dX6_readsLetter_62 ?_
    refine aw_st (fun u10 eu10 => ?_)
    have hf := onm_a eu10 hf
    refine aw_aload_n 1 dX6_readsLetter_65 rfl rfl ?_
    refine aw_dup dX6_readsLetter_66 rfl ?_
    refine aw_get (v := .int (u10.1 3)) (mg_o hok) rfl in_X6 6 (by decide) q1745 (Or.inl rfl) rfl dX6_readsLetter_67 ?_
    refine aw_iload_n 0 dX6_readsLetter_70 rfl rfl ?_
    obtain ⟨q11, eq11, hf⟩ := Option.bind_eq_some_iff.mp hf
    refine aw_callS (rest := [.int (u10.1 3), .ref (ad 13)]) (C_X6_flag hl eq11) nX6_flag q1865 q1866 q137 q1867 dX6_readsLetter_71 rfl (by decide) (by decide) (Nat.le_of_ble_eq_true rfl) (Nat.le_refl _) (Nat.le_refl _) (aP1_i ?_) aP1_x
    refine aw_iadd dX6_readsLetter_74 ?_
    refine aw_put (mg_o hok) rfl in_X6 tyX6_ok nmX6 6 (by decide) q1745 (Or.inl rfl) rfl rfl rfl (Nat.le_of_ble_eq_true rfl) (mu_i3 hok) dX6_readsLetter_75 ?_
    refine aw_st (fun u12 eu12 => ?_)
    have hf := onm_a eu12 hf
    refine aw_iload_n 0 dX6_readsLetter_78 rfl rfl ?_
    obtain ⟨z13, hf⟩ := onr_s hf
    cases hf
    exact aw_zret rfl z13 dX6_readsLetter_79 aP1_rfl (Nat.le_refl _) (Nat.le_refl _)
def S_X6_readsLetter (x1 : Int32) (st : MSt) : Option (Int32 × MSt) :=
  onm (mI st 4 x1) fun u1 =>
  if (u1.1 1) ≤ (u1.1 3) then
    S_X6_readsLetter_j40 0 u1
  else
    ob (u1.1 3) 80 fun j14 =>
    (S_X6_in (u1.2.1 2 j14) 65 68).bind fun q16 =>
    if q16 = 0 then
      S_X6_readsLetter_j40 0 u1
    else
      S_X6_readsLetter_j40 1 u1
set_option maxHeartbeats 2000000 in
theorem C_X6_readsLetter {l : Launch} {G : aG} {ad : Nat → Nat} {h0 : aH} (hok : mOk ad) (hl : l.stackTraces = false) {x1 : Int32} {st : MSt} {r : Int32 × MSt} (hf : S_X6_readsLetter x1 st = some r) : aC l G mX6_readsLetter (ws_ yX6_readsLetter cX6_readsLetter 3 (some .boolean)) 1 0 0 [.ref (ad 13), .int x1] (mh ad st h0) (aP1 (some (.int r.1)) (mh ad r.2 h0)) := by
  refine aC_of (M := mX6_readsLetter) rfl (by decide) (Nat.le_of_ble_eq_true rfl) hl ?_
  rw [S_X6_readsLetter] at hf
  refine aw_eqv (lv2 := [(0, .ref (ad 13)), (1, .int x1)]) rfl rfl rfl rfl ?_
  refine aw_aload_n 0 dX6_readsLetter_0 rfl rfl ?_
  refine aw_iload_n 1 dX6_readsLetter_1 rfl rfl ?_
  refine aw_put (mg_o hok) rfl in_X6 tyX6_ok nmX6 7 (by decide) q1746 (Or.inl rfl) rfl rfl rfl (Nat.le_of_ble_eq_true rfl) (mu_i4 hok) dX6_readsLetter_2 ?_
  refine aw_st (fun u1 eu1 => ?_)
  have hf := onm_a eu1 hf
  refine aw_aload_n 0 dX6_readsLetter_5 rfl rfl ?_
  refine aw_get (v := .int (u1.1 3)) (mg_o hok) rfl in_X6 6 (by decide) q1745 (Or.inl rfl) rfl dX6_readsLetter_6 ?_
  refine aw_aload_n 0 dX6_readsLetter_9 rfl rfl ?_
  refine aw_get (v := .int (u1.1 1)) (mg_o hok) rfl in_X6 4 (by decide) q1743 (Or.inl rfl) rfl dX6_readsLetter_10 ?_
  refine aw_icmp_ge 39 dX6_readsLetter_13 (by decide) (fun c2 => ?_) (fun c2 => ?_)
  · have hf := it_t c2 hf
    refine aw_iconst (v := 0) dX6_readsLetter_39 (by decide) ?_
    refine aw_sub [0] rfl ?_
    exact A_X6_readsLetter_j40 hok hl 0 u1 hf
  · have hf := it_f c2 hf
    refine aw_aload_n 0 dX6_readsLetter_16 rfl rfl ?_
    refine aw_get (v := .ref (ad 2)) (mg_o hok) rfl in_X6 3 (by decide) q1742 (Or.inl rfl) rfl dX6_readsLetter_17 ?_
    refine aw_aload_n 0 dX6_readsLetter_20 rfl rfl ?_
    refine aw_get (v := .int (u1.1 3)) (mg_o hok) rfl in_X6 6 (by decide) q1745 (Or.inl rfl) rfl dX6_readsLetter_21 ?_
    obtain ⟨j14, z15, ej14, hf⟩ := ob_s hf
    refine aw_caldj (mg_2 hok) z15 ej14 dX6_readsLetter_24 ?_
    refine aw_bipush (v := 65) dX6_readsLetter_25 (by decide) ?_
    refine aw_bipush (v := 68) dX6_readsLetter_27 (by decide) ?_
    obtain ⟨q16, eq16, hf⟩ := Option.bind_eq_some_iff.mp hf
    refine aw_callS (rest := []) (C_X6_in hl eq16) nX6_in q1822 q1823 q137 q1824 dX6_readsLetter_29 rfl (by decide) (by decide) (Nat.le_of_ble_eq_true rfl) (Nat.le_refl _) (Nat.le_refl _) (aP1_i ?_) aP1_x
    refine aw_if_eq 39 dX6_readsLetter_32 (by decide) (fun c17 => ?_) (fun c17 => ?_)
    · have hf := it_t c17 hf
      refine aw_iconst (v := 0) dX6_readsLetter_39 (by decide) ?_
      refine aw_sub [0] rfl ?_
      exact A_X6_readsLetter_j40 hok hl 0 u1 hf
    · have hf := it_f c17 hf
      refine aw_iconst (v := 1) dX6_readsLetter_35 (by decide) ?_
      refine aw_goto 40 dX6_readsLetter_36 (by decide) ?_
      refine aw_sub [0] rfl ?_
      exact A_X6_readsLetter_j40 hok hl 1 u1 hf
abbrev mX6_readsThing : aM := (yX6_readsThing, cX6_readsThing, 2, some .boolean, [])
theorem nX6_readsThing : aNoMH yX6_readsThing 1 := by decide +kernel
def S_X6_readsThing (x1 : Int32) (st : MSt) : Option (Int32 × MSt) :=
  onm (mI st 4 x1) fun u1 =>
  onm (mI u1 6 ((-1))) fun u2 =>
  (S_X6_takes 46 u2).bind fun q3 =>
  if q3.1 = 0 then
    (S_X6_readsLetter x1 q3.2).bind fun q5 =>
    if q5.1 = 0 then
      some (0, q5.2)
    else
      some (1, q5.2)
  else
    some (1, q3.2)
set_option maxHeartbeats 2000000 in
theorem C_X6_readsThing {l : Launch} {G : aG} {ad : Nat → Nat} {h0 : aH} (hok : mOk ad) (hl : l.stackTraces = false) {x1 : Int32} {st : MSt} {r : Int32 × MSt} (hf : S_X6_readsThing x1 st = some r) : aC l G mX6_readsThing (ws_ yX6_readsThing cX6_readsThing 2 (some .boolean)) 2 0 0 [.ref (ad 13), .int x1] (mh ad st h0) (aP1 (some (.int r.1)) (mh ad r.2 h0)) := by
  refine aC_of (M := mX6_readsThing) rfl (by decide) (Nat.le_of_ble_eq_true rfl) hl ?_
  rw [S_X6_readsThing] at hf
  refine aw_eqv (lv2 := [(0, .ref (ad 13)), (1, .int x1)]) rfl rfl rfl rfl ?_
  refine aw_aload_n 0 dX6_readsThing_0 rfl rfl ?_
  refine aw_iload_n 1 dX6_readsThing_1 rfl rfl ?_
  refine aw_put (mg_o hok) rfl in_X6 tyX6_ok nmX6 7 (by decide) q1746 (Or.inl rfl) rfl rfl rfl (Nat.le_of_ble_eq_true rfl) (mu_i4 hok) dX6_readsThing_2 ?_
  refine aw_st (fun u1 eu1 => ?_)
  have hf := onm_a eu1 hf
  refine aw_aload_n 0 dX6_readsThing_5 rfl rfl ?_
  refine aw_iconst (v := (-1)) dX6_readsThing_6 (by decide) ?_
  refine aw_put (mg_o hok) rfl in_X6 tyX6_ok nmX6 9 (by decide) q1748 (Or.inl rfl) rfl rfl rfl (Nat.le_of_ble_eq_true rfl) (mu_i6 hok) dX6_readsThing_7 ?_
  refine aw_st (fun u2 eu2 => ?_)
  have hf := onm_a eu2 hf
  refine aw_aload_n 0 dX6_readsThing_10 rfl rfl ?_
  refine aw_bipush (v := 46) dX6_readsThing_11 (by decide) ?_
  obtain ⟨q3, eq3, hf⟩ := Option.bind_eq_some_iff.mp hf
  refine aw_callV (rest := []) (C_X6_takes hok hl eq3) (mg_o hok) rfl rfl nX6_takes q2247 q2249 qs112 q137 q2250 dX6_readsThing_13 rfl (by decide) (by decide) (Nat.le_of_ble_eq_true rfl) (Nat.le_refl _) (Nat.le_refl _) (aP1_i ?_) aP1_x
  refine aw_if_ne 27 dX6_readsThing_16 (by decide) (fun c4 => ?_) (fun c4 => ?_)
  · have hf := it_f c4 hf
    refine aw_iconst (v := 1) dX6_readsThing_27 (by decide) ?_
    refine aw_goto 32 dX6_readsThing_28 (by decide) ?_
    cases hf
    exact aw_zret rfl rfl dX6_readsThing_32 aP1_rfl (Nat.le_refl _) (Nat.le_refl _)
  · have hf := it_t c4 hf
    refine aw_aload_n 0 dX6_readsThing_19 rfl rfl ?_
    refine aw_iload_n 1 dX6_readsThing_20 rfl rfl ?_
    obtain ⟨q5, eq5, hf⟩ := Option.bind_eq_some_iff.mp hf
    refine aw_callV (rest := []) (C_X6_readsLetter hok hl eq5) (mg_o hok) rfl rfl nX6_readsLetter q2251 q2253 qs113 q137 q2254 dX6_readsThing_21 rfl (by decide) (by decide) (Nat.le_of_ble_eq_true rfl) (Nat.le_refl _) (Nat.le_refl _) (aP1_i ?_) aP1_x
    refine aw_if_eq 31 dX6_readsThing_24 (by decide) (fun c6 => ?_) (fun c6 => ?_)
    · have hf := it_t c6 hf
      refine aw_iconst (v := 0) dX6_readsThing_31 (by decide) ?_
      cases hf
      exact aw_zret rfl rfl dX6_readsThing_32 aP1_rfl (Nat.le_refl _) (Nat.le_refl _)
    · have hf := it_f c6 hf
      refine aw_iconst (v := 1) dX6_readsThing_27 (by decide) ?_
      refine aw_goto 32 dX6_readsThing_28 (by decide) ?_
      cases hf
      exact aw_zret rfl rfl dX6_readsThing_32 aP1_rfl (Nat.le_refl _) (Nat.le_refl _)
abbrev mX6_readsCommand : aM := (yX6_readsCommand, cX6_readsCommand, 1, some .boolean, [])
theorem nX6_readsCommand : aNoMH yX6_readsCommand 0 := by decide +kernel
def S_X6_readsCommand (st : MSt) : Option (Int32 × MSt) :=
  (S_X6_readsNumber st).bind fun q1 =>
  if q1.1 = 0 then
    some (0, q1.2)
  else
    (S_X6_takes 61 q1.2).bind fun q3 =>
    if q3.1 = 0 then
      (S_X6_takes 58 q3.2).bind fun q5 =>
      if q5.1 = 0 then
        (S_X6_takes 33 q5.2).bind fun q7 =>
        if q7.1 = 0 then
          onm (mI q7.2 4 2) fun u9 =>
          (S_X6_takes 42 u9).bind fun q10 =>
          onr .boolean q10.1 <|
          some (q10.1, q10.2)
        else
          (S_X6_readsThing 4 q7.2).bind fun q12 =>
          onr .boolean q12.1 <|
          some (q12.1, q12.2)
      else
        (S_X6_readsThing 3 q5.2).bind fun q14 =>
        onr .boolean q14.1 <|
        some (q14.1, q14.2)
    else
      (S_X6_takes 39 q3.2).bind fun q16 =>
      if q16.1 = 0 then
        (S_X6_readsLetter 0 q16.2).bind fun q18 =>
        onr .boolean q18.1 <|
        some (q18.1, q18.2)
      else
        (S_X6_readsLetter 1 q16.2).bind fun q20 =>
        onr .boolean q20.1 <|
        some (q20.1, q20.2)
set_option maxHeartbeats 2000000 in
theorem C_X6_readsCommand {l : Launch} {G : aG} {ad : Nat → Nat} {h0 : aH} (hok : mOk ad) (hl : l.stackTraces = false) {st : MSt} {r : Int32 × MSt} (hf : S_X6_readsCommand st = some r) : aC l G mX6_readsCommand (ws_ yX6_readsCommand cX6_readsCommand 1 (some .boolean)) 3 0 0 [.ref (ad 13)] (mh ad st h0) (aP1 (some (.int r.1)) (mh ad r.2 h0)) := by
  refine aC_of (M := mX6_readsCommand) rfl (by decide) (Nat.le_of_ble_eq_true rfl) hl ?_
  rw [S_X6_readsCommand] at hf
  refine aw_eqv (lv2 := [(0, .ref (ad 13))]) rfl rfl rfl rfl ?_
  refine aw_aload_n 0 dX6_readsCommand_0 rfl rfl ?_
  obtain ⟨q1, eq1, hf⟩ := Option.bind_eq_some_iff.mp hf
  refine aw_callV (rest := []) (C_X6_readsNumber hok hl eq1) (mg_o hok) rfl rfl nX6_readsNumber q2239 q2241 qs110 q137 q2242 dX6_readsCommand_1 rfl (by decide) (by decide) (Nat.le_of_ble_eq_true rfl) (Nat.le_refl _) (Nat.le_refl _) (aP1_i ?_) aP1_x
  refine aw_if_ne 9 dX6_readsCommand_4 (by decide) (fun c2 => ?_) (fun c2 => ?_)
  · have hf := it_f c2 hf
    refine aw_aload_n 0 dX6_readsCommand_9 rfl rfl ?_
    refine aw_bipush (v := 61) dX6_readsCommand_10 (by decide) ?_
    obtain ⟨q3, eq3, hf⟩ := Option.bind_eq_some_iff.mp hf
    refine aw_callV (rest := []) (C_X6_takes hok hl eq3) (mg_o hok) rfl rfl nX6_takes q2247 q2249 qs112 q137 q2250 dX6_readsCommand_12 rfl (by decide) (by decide) (Nat.le_of_ble_eq_true rfl) (Nat.le_refl _) (Nat.le_refl _) (aP1_i ?_) aP1_x
    refine aw_if_eq 41 dX6_readsCommand_15 (by decide) (fun c4 => ?_) (fun c4 => ?_)
    · have hf := it_t c4 hf
      refine aw_aload_n 0 dX6_readsCommand_41 rfl rfl ?_
      refine aw_bipush (v := 58) dX6_readsCommand_42 (by decide) ?_
      obtain ⟨q5, eq5, hf⟩ := Option.bind_eq_some_iff.mp hf
      refine aw_callV (rest := []) (C_X6_takes hok hl eq5) (mg_o hok) rfl rfl nX6_takes q2247 q2249 qs112 q137 q2250 dX6_readsCommand_44 rfl (by decide) (by decide) (Nat.le_of_ble_eq_true rfl) (Nat.le_refl _) (Nat.le_refl _) (aP1_i ?_) aP1_x
      refine aw_if_eq 56 dX6_readsCommand_47 (by decide) (fun c6 => ?_) (fun c6 => ?_)
      · have hf := it_t c6 hf
        refine aw_aload_n 0 dX6_readsCommand_56 rfl rfl ?_
        refine aw_bipush (v := 33) dX6_readsCommand_57 (by decide) ?_
        obtain ⟨q7, eq7, hf⟩ := Option.bind_eq_some_iff.mp hf
        refine aw_callV (rest := []) (C_X6_takes hok hl eq7) (mg_o hok) rfl rfl nX6_takes q2247 q2249 qs112 q137 q2250 dX6_readsCommand_59 rfl (by decide) (by decide) (Nat.le_of_ble_eq_true rfl) (Nat.le_refl _) (Nat.le_refl _) (aP1_i ?_) aP1_x
        refine aw_if_eq 71 dX6_readsCommand_62 (by decide) (fun c8 => ?_) (fun c8 => ?_)
        · have hf := it_t c8 hf
          refine aw_aload_n 0 dX6_readsCommand_71 rfl rfl ?_
          refine aw_iconst (v := 2) dX6_readsCommand_72 (by decide) ?_
          refine aw_put (mg_o hok) rfl in_X6 tyX6_ok nmX6 7 (by decide) q1746 (Or.inl rfl) rfl rfl rfl (Nat.le_of_ble_eq_true rfl) (mu_i4 hok) dX6_readsCommand_73 ?_
          refine aw_st (fun u9 eu9 => ?_)
          have hf := onm_a eu9 hf
          refine aw_aload_n 0 dX6_readsCommand_76 rfl rfl ?_
          refine aw_bipush (v := 42) dX6_readsCommand_77 (by decide) ?_
          obtain ⟨q10, eq10, hf⟩ := Option.bind_eq_some_iff.mp hf
          refine aw_callV (rest := []) (C_X6_takes hok hl eq10) (mg_o hok) rfl rfl nX6_takes q2247 q2249 qs112 q137 q2250 dX6_readsCommand_79 rfl (by decide) (by decide) (Nat.le_of_ble_eq_true rfl) (Nat.le_refl _) (Nat.le_refl _) (aP1_i ?_) aP1_x
          obtain ⟨z11, hf⟩ := onr_s hf
          cases hf
          exact aw_zret rfl z11 dX6_readsCommand_82 aP1_rfl (Nat.le_refl _) (Nat.le_refl _)
        · have hf := it_f c8 hf
          refine aw_aload_n 0 dX6_readsCommand_65 rfl rfl ?_
          refine aw_iconst (v := 4) dX6_readsCommand_66 (by decide) ?_
          obtain ⟨q12, eq12, hf⟩ := Option.bind_eq_some_iff.mp hf
          refine aw_callV (rest := []) (C_X6_readsThing hok hl eq12) (mg_o hok) rfl rfl nX6_readsThing q2255 q2257 qs114 q137 q2258 dX6_readsCommand_67 rfl (by decide) (by decide) (Nat.le_of_ble_eq_true rfl) (Nat.le_refl _) (Nat.le_refl _) (aP1_i ?_) aP1_x
          obtain ⟨z13, hf⟩ := onr_s hf
          cases hf
          exact aw_zret rfl z13 dX6_readsCommand_70 aP1_rfl (Nat.le_refl _) (Nat.le_refl _)
      · have hf := it_f c6 hf
        refine aw_aload_n 0 dX6_readsCommand_50 rfl rfl ?_
        refine aw_iconst (v := 3) dX6_readsCommand_51 (by decide) ?_
        obtain ⟨q14, eq14, hf⟩ := Option.bind_eq_some_iff.mp hf
        refine aw_callV (rest := []) (C_X6_readsThing hok hl eq14) (mg_o hok) rfl rfl nX6_readsThing q2255 q2257 qs114 q137 q2258 dX6_readsCommand_52 rfl (by decide) (by decide) (Nat.le_of_ble_eq_true rfl) (Nat.le_refl _) (Nat.le_refl _) (aP1_i ?_) aP1_x
        obtain ⟨z15, hf⟩ := onr_s hf
        cases hf
        exact aw_zret rfl z15 dX6_readsCommand_55 aP1_rfl (Nat.le_refl _) (Nat.le_refl _)
    · have hf := it_f c4 hf
      refine aw_aload_n 0 dX6_readsCommand_18 rfl rfl ?_
      refine aw_bipush (v := 39) dX6_readsCommand_19 (by decide) ?_
      obtain ⟨q16, eq16, hf⟩ := Option.bind_eq_some_iff.mp hf
      refine aw_callV (rest := []) (C_X6_takes hok hl eq16) (mg_o hok) rfl rfl nX6_takes q2247 q2249 qs112 q137 q2250 dX6_readsCommand_21 rfl (by decide) (by decide) (Nat.le_of_ble_eq_true rfl) (Nat.le_refl _) (Nat.le_refl _) (aP1_i ?_) aP1_x
      refine aw_if_eq 35 dX6_readsCommand_24 (by decide) (fun c17 => ?_) (fun c17 => ?_)
      · have hf := it_t c17 hf
        refine aw_aload_n 0 dX6_readsCommand_35 rfl rfl ?_
        refine aw_iconst (v := 0) dX6_readsCommand_36 (by decide) ?_
        obtain ⟨q18, eq18, hf⟩ := Option.bind_eq_some_iff.mp hf
        refine aw_callV (rest := []) (C_X6_readsLetter hok hl eq18) (mg_o hok) rfl rfl nX6_readsLetter q2251 q2253 qs113 q137 q2254 dX6_readsCommand_37 rfl (by decide) (by decide) (Nat.le_of_ble_eq_true rfl) (Nat.le_refl _) (Nat.le_refl _) (aP1_i ?_) aP1_x
        obtain ⟨z19, hf⟩ := onr_s hf
        cases hf
        exact aw_zret rfl z19 dX6_readsCommand_40 aP1_rfl (Nat.le_refl _) (Nat.le_refl _)
      · have hf := it_f c17 hf
        refine aw_aload_n 0 dX6_readsCommand_27 rfl rfl ?_
        refine aw_iconst (v := 1) dX6_readsCommand_28 (by decide) ?_
        obtain ⟨q20, eq20, hf⟩ := Option.bind_eq_some_iff.mp hf
        refine aw_callV (rest := []) (C_X6_readsLetter hok hl eq20) (mg_o hok) rfl rfl nX6_readsLetter q2251 q2253 qs113 q137 q2254 dX6_readsCommand_29 rfl (by decide) (by decide) (Nat.le_of_ble_eq_true rfl) (Nat.le_refl _) (Nat.le_refl _) (aP1_i ?_) aP1_x
        refine aw_goto 40 dX6_readsCommand_32 (by decide) ?_
        obtain ⟨z21, hf⟩ := onr_s hf
        cases hf
        exact aw_zret rfl z21 dX6_readsCommand_40 aP1_rfl (Nat.le_refl _) (Nat.le_refl _)
  · have hf := it_t c2 hf
    refine aw_iconst (v := 0) dX6_readsCommand_7 (by decide) ?_
    cases hf
    exact aw_zret rfl rfl dX6_readsCommand_8 aP1_rfl (Nat.le_refl _) (Nat.le_refl _)
abbrev mX6_error : aM := (yX6_error, cX6_error, 1, some .int, [])
theorem nX6_error : aNoMH yX6_error 0 := by decide +kernel
def S_X6_error_c5 : Nat → MSt → Option (Int32 × MSt)
  | 0, _ => none
  | n + 1, st =>
    (S_X6_readsCommand st).bind fun q2 =>
    if q2.1 = 0 then
      some (q2.2.1 3, q2.2)
    else
      if (q2.2.1 3) = (q2.2.1 1) then
        some ((-1), q2.2)
      else
        (S_X6_takes 59 q2.2).bind fun q5 =>
        if q5.1 = 0 then
          some (q5.2.1 3, q5.2)
        else
          S_X6_error_c5 n q5.2
set_option maxHeartbeats 2000000 in
theorem A_X6_error_c5 {l : Launch} {G : aG} {ad : Nat → Nat} {h0 : aH} (hok : mOk ad) (hl : l.stackTraces = false) {r : Int32 × MSt} : ∀ (n : Nat) (st : MSt), S_X6_error_c5 n st = some r → AW l G mX6_error 4 0 0 (aP1 (some (.int r.1)) (mh ad r.2 h0)) 5 [(0, .ref (ad 13))] [] (mh ad st h0) 0 0 := by
  intro n
  induction n with
  | zero =>
    intro st hf
    rw [S_X6_error_c5] at hf
    cases hf
  | succ n ih =>
    intro st hf
    rw [S_X6_error_c5] at hf
    refine aw_aload_n 0 dX6_error_5 rfl rfl ?_
    obtain ⟨q2, eq2, hf⟩ := Option.bind_eq_some_iff.mp hf
    refine aw_callV (rest := []) (C_X6_readsCommand hok hl eq2) (mg_o hok) rfl rfl nX6_readsCommand q2235 q2237 qs109 q137 q2238 dX6_error_6 rfl (by decide) (by decide) (Nat.le_of_ble_eq_true rfl) (Nat.le_refl _) (Nat.le_refl _) (aP1_i ?_) aP1_x
    refine aw_if_eq 39 dX6_error_9 (by decide) (fun c3 => ?_) (fun c3 => ?_)
    · have hf := it_t c3 hf
      refine aw_aload_n 0 dX6_error_39 rfl rfl ?_
      refine aw_get (v := .int (q2.2.1 3)) (mg_o hok) rfl in_X6 6 (by decide) q1745 (Or.inl rfl) rfl dX6_error_40 ?_
      cases hf
      exact aw_iret rfl dX6_error_43 aP1_rfl (Nat.le_refl _) (Nat.le_refl _)
    · have hf := it_f c3 hf
      refine aw_aload_n 0 dX6_error_12 rfl rfl ?_
      refine aw_get (v := .int (q2.2.1 3)) (mg_o hok) rfl in_X6 6 (by decide) q1745 (Or.inl rfl) rfl dX6_error_13 ?_
      refine aw_aload_n 0 dX6_error_16 rfl rfl ?_
      refine aw_get (v := .int (q2.2.1 1)) (mg_o hok) rfl in_X6 4 (by decide) q1743 (Or.inl rfl) rfl dX6_error_17 ?_
      refine aw_icmp_ne 25 dX6_error_20 (by decide) (fun c4 => ?_) (fun c4 => ?_)
      · have hf := it_f c4 hf
        refine aw_aload_n 0 dX6_error_25 rfl rfl ?_
        refine aw_bipush (v := 59) dX6_error_26 (by decide) ?_
        obtain ⟨q5, eq5, hf⟩ := Option.bind_eq_some_iff.mp hf
        refine aw_callV (rest := []) (C_X6_takes hok hl eq5) (mg_o hok) rfl rfl nX6_takes q2247 q2249 qs112 q137 q2250 dX6_error_28 rfl (by decide) (by decide) (Nat.le_of_ble_eq_true rfl) (Nat.le_refl _) (Nat.le_refl _) (aP1_i ?_) aP1_x
        refine aw_if_ne 5 dX6_error_31 (by decide) (fun c6 => ?_) (fun c6 => ?_)
        · have hf := it_f c6 hf
          exact ih q5.2 hf
        · have hf := it_t c6 hf
          refine aw_aload_n 0 dX6_error_34 rfl rfl ?_
          refine aw_get (v := .int (q5.2.1 3)) (mg_o hok) rfl in_X6 6 (by decide) q1745 (Or.inl rfl) rfl dX6_error_35 ?_
          cases hf
          exact aw_iret rfl dX6_error_38 aP1_rfl (Nat.le_refl _) (Nat.le_refl _)
      · have hf := it_t c4 hf
        refine aw_iconst (v := (-1)) dX6_error_23 (by decide) ?_
        cases hf
        exact aw_iret rfl dX6_error_24 aP1_rfl (Nat.le_refl _) (Nat.le_refl _)
def S_X6_error (n : Nat) (st : MSt) : Option (Int32 × MSt) :=
  onm (mI st 3 0) fun u1 =>
  S_X6_error_c5 n u1
set_option maxHeartbeats 2000000 in
theorem C_X6_error {l : Launch} {G : aG} {ad : Nat → Nat} {h0 : aH} (hok : mOk ad) (hl : l.stackTraces = false) {n : Nat} {st : MSt} {r : Int32 × MSt} (hf : S_X6_error n st = some r) : aC l G mX6_error (ws_ yX6_error cX6_error 1 (some .int)) 4 0 0 [.ref (ad 13)] (mh ad st h0) (aP1 (some (.int r.1)) (mh ad r.2 h0)) := by
  refine aC_of (M := mX6_error) rfl (by decide) (Nat.le_of_ble_eq_true rfl) hl ?_
  rw [S_X6_error] at hf
  refine aw_eqv (lv2 := [(0, .ref (ad 13))]) rfl rfl rfl rfl ?_
  refine aw_aload_n 0 dX6_error_0 rfl rfl ?_
  refine aw_iconst (v := 0) dX6_error_1 (by decide) ?_
  refine aw_put (mg_o hok) rfl in_X6 tyX6_ok nmX6 6 (by decide) q1745 (Or.inl rfl) rfl rfl rfl (Nat.le_of_ble_eq_true rfl) (mu_i3 hok) dX6_error_2 ?_
  refine aw_st (fun u1 eu1 => ?_)
  have hf := onm_a eu1 hf
  exact A_X6_error_c5 hok hl n u1 hf
abbrev mX6_textError : aM := (yX6_textError, cX6_textError, 1, some .int, [])
theorem nX6_textError : aNoMH yX6_textError 0 := by decide +kernel
def S_X6_textError (n : Nat) (st : MSt) : Option (Int32 × MSt) :=
  (S_X6_error n st).bind fun q1 =>
  (S_X6_told q1.1 q1.2).bind fun q2 =>
  some (q2.1, q2.2)
set_option maxHeartbeats 2000000 in
theorem C_X6_textError {l : Launch} {G : aG} {ad : Nat → Nat} {h0 : aH} (hok : mOk ad) (hl : l.stackTraces = false) {n : Nat} {st : MSt} {r : Int32 × MSt} (hf : S_X6_textError n st = some r) : aC l G mX6_textError (ws_ yX6_textError cX6_textError 1 (some .int)) 5 0 0 [.ref (ad 13)] (mh ad st h0) (aP1 (some (.int r.1)) (mh ad r.2 h0)) := by
  refine aC_of (M := mX6_textError) rfl (by decide) (Nat.le_of_ble_eq_true rfl) hl ?_
  rw [S_X6_textError] at hf
  refine aw_eqv (lv2 := [(0, .ref (ad 13))]) rfl rfl rfl rfl ?_
  refine aw_aload_n 0 dX6_textError_0 rfl rfl ?_
  refine aw_aload_n 0 dX6_textError_1 rfl rfl ?_
  obtain ⟨q1, eq1, hf⟩ := Option.bind_eq_some_iff.mp hf
  refine aw_callV (rest := [.ref (ad 13)]) (C_X6_error hok hl eq1) (mg_o hok) rfl rfl nX6_error q2231 q2233 qs108 q137 q2234 dX6_textError_2 rfl (by decide) (by decide) (Nat.le_of_ble_eq_true rfl) (Nat.le_refl _) (Nat.le_refl _) (aP1_i ?_) aP1_x
  obtain ⟨q2, eq2, hf⟩ := Option.bind_eq_some_iff.mp hf
  refine aw_callV (rest := []) (C_X6_told hok hl eq2) (mg_o hok) rfl rfl nX6_told q1918 q1920 qs69 q137 q1921 dX6_textError_5 rfl (by decide) (by decide) (Nat.le_of_ble_eq_true rfl) (Nat.le_refl _) (Nat.le_refl _) (aP1_i ?_) aP1_x
  cases hf
  exact aw_iret rfl dX6_textError_8 aP1_rfl (Nat.le_refl _) (Nat.le_refl _)
abbrev mX6_thing : aM := (yX6_thing, cX6_thing, 1, some .int, [])
theorem nX6_thing : aNoMH yX6_thing 0 := by decide +kernel
def S_X6_thing (st : MSt) : Option (Int32) :=
  if (st.1 6) = ((-1)) then
    some (st.2.1 0 1)
  else
    if (st.2.1 0 1) ≤ (st.1 6) then
      some ((-1))
    else
      some (st.1 6)
set_option maxHeartbeats 2000000 in
theorem C_X6_thing {l : Launch} {G : aG} {ad : Nat → Nat} {h0 : aH} (hok : mOk ad) (hl : l.stackTraces = false) {st : MSt} {r : Int32} (hf : S_X6_thing st = some r) : aC l G mX6_thing (ws_ yX6_thing cX6_thing 1 (some .int)) 0 0 0 [.ref (ad 13)] (mh ad st h0) (aP1 (some (.int r)) (mh ad st h0)) := by
  refine aC_of (M := mX6_thing) rfl (by decide) (Nat.le_of_ble_eq_true rfl) hl ?_
  rw [S_X6_thing] at hf
  refine aw_eqv (lv2 := [(0, .ref (ad 13))]) rfl rfl rfl rfl ?_
  refine aw_aload_n 0 dX6_thing_0 rfl rfl ?_
  refine aw_get (v := .int (st.1 6)) (mg_o hok) rfl in_X6 9 (by decide) q1748 (Or.inl rfl) rfl dX6_thing_1 ?_
  refine aw_iconst (v := (-1)) dX6_thing_4 (by decide) ?_
  refine aw_icmp_ne 17 dX6_thing_5 (by decide) (fun c1 => ?_) (fun c1 => ?_)
  · have hf := it_f c1 hf
    refine aw_aload_n 0 dX6_thing_17 rfl rfl ?_
    refine aw_get (v := .int (st.1 6)) (mg_o hok) rfl in_X6 9 (by decide) q1748 (Or.inl rfl) rfl dX6_thing_18 ?_
    refine aw_aload_n 0 dX6_thing_21 rfl rfl ?_
    refine aw_get (v := .ref (ad 0)) (mg_o hok) rfl in_X6 0 (by decide) q1739 (Or.inl rfl) rfl dX6_thing_22 ?_
    refine aw_iconst (v := 1) dX6_thing_25 (by decide) ?_
    refine aw_ialdj (j := 1) (mg_0 hok) (vpc (by decide)) (by decide) dX6_thing_26 ?_
    refine aw_icmp_ge 37 dX6_thing_27 (by decide) (fun c2 => ?_) (fun c2 => ?_)
    · have hf := it_t c2 hf
      refine aw_iconst (v := (-1)) dX6_thing_37 (by decide) ?_
      cases hf
      exact aw_iret rfl dX6_thing_38 aP1_rfl (Nat.le_refl _) (Nat.le_refl _)
    · have hf := it_f c2 hf
      refine aw_aload_n 0 dX6_thing_30 rfl rfl ?_
      refine aw_get (v := .int (st.1 6)) (mg_o hok) rfl in_X6 9 (by decide) q1748 (Or.inl rfl) rfl dX6_thing_31 ?_
      refine aw_goto 38 dX6_thing_34 (by decide) ?_
      cases hf
      exact aw_iret rfl dX6_thing_38 aP1_rfl (Nat.le_refl _) (Nat.le_refl _)
  · have hf := it_t c1 hf
    refine aw_aload_n 0 dX6_thing_8 rfl rfl ?_
    refine aw_get (v := .ref (ad 0)) (mg_o hok) rfl in_X6 0 (by decide) q1739 (Or.inl rfl) rfl dX6_thing_9 ?_
    refine aw_iconst (v := 1) dX6_thing_12 (by decide) ?_
    refine aw_ialdj (j := 1) (mg_0 hok) (vpc (by decide)) (by decide) dX6_thing_13 ?_
    refine aw_goto 38 dX6_thing_14 (by decide) ?_
    cases hf
    exact aw_iret rfl dX6_thing_38 aP1_rfl (Nat.le_refl _) (Nat.le_refl _)
abbrev mX6_can : aM := (yX6_can, cX6_can, 1, some .boolean, [])
theorem nX6_can : aNoMH yX6_can 0 := by decide +kernel
def S_X6_can (st : MSt) : Option (Int32) :=
  if (st.1 4) = 2 then
    (S_X6_isEdge (st.1 5) st).bind fun q1 =>
    if q1 = 0 then
      some 0
    else
      ob ((3 : Int32) + (st.1 5)) 432 fun j3 =>
      if (st.2.1 0 j3) ≤ 0 then
        some 0
      else
        some 1
  else
    if (st.1 4) = 3 then
      (S_X6_isCell (st.1 5) st).bind fun q7 =>
      if q7 = 0 then
        some 0
      else
        (S_X6_thing st).bind fun q9 =>
        if q9 = ((-1)) then
          some 0
        else
          some 1
    else
      if (st.1 4) = 4 then
        (S_X6_isCell (st.1 5) st).bind fun q12 =>
        if q12 = 0 then
          some 0
        else
          (S_X6_thing st).bind fun q14 =>
          if q14 = ((-1)) then
            some 0
          else
            ob ((23 : Int32) + (st.1 5)) 432 fun j16 =>
            (S_X6_thing st).bind fun q18 =>
            (S_X6_has (st.2.1 0 j16) q18).bind fun q19 =>
            if q19 = 0 then
              some 0
            else
              some 1
      else
        (S_X6_isEdge (st.1 5) st).bind fun q22 =>
        if q22 = 0 then
          some 0
        else
          (S_X6_isLetter (st.1 6) st).bind fun q24 =>
          if q24 = 0 then
            some 0
          else
            some 1
set_option maxHeartbeats 2000000 in
theorem C_X6_can {l : Launch} {G : aG} {ad : Nat → Nat} {h0 : aH} (hok : mOk ad) (hl : l.stackTraces = false) {st : MSt} {r : Int32} (hf : S_X6_can st = some r) : aC l G mX6_can (ws_ yX6_can cX6_can 1 (some .boolean)) 2 0 0 [.ref (ad 13)] (mh ad st h0) (aP1 (some (.int r)) (mh ad st h0)) := by
  refine aC_of (M := mX6_can) rfl (by decide) (Nat.le_of_ble_eq_true rfl) hl ?_
  rw [S_X6_can] at hf
  refine aw_eqv (lv2 := [(0, .ref (ad 13))]) rfl rfl rfl rfl ?_
  refine aw_aload_n 0 dX6_can_0 rfl rfl ?_
  refine aw_get (v := .int (st.1 4)) (mg_o hok) rfl in_X6 7 (by decide) q1746 (Or.inl rfl) rfl dX6_can_1 ?_
  by_cases c6 : (st.1 4) = 2
  · have hf := it_t c6 hf
    have ex : (st.1 4).toInt = 2 := by rw [c6]; decide
    refine aw_tableIn 32 dX6_can_4 (by rw [ex]; decide) (by rw [ex]; decide) (by rw [ex]; rfl) (by decide) ?_
    refine aw_aload_n 0 dX6_can_32 rfl rfl ?_
    refine aw_aload_n 0 dX6_can_33 rfl rfl ?_
    refine aw_get (v := .int (st.1 5)) (mg_o hok) rfl in_X6 8 (by decide) q1747 (Or.inl rfl) rfl dX6_can_34 ?_
    obtain ⟨q1, eq1, hf⟩ := Option.bind_eq_some_iff.mp hf
    refine aw_callV (rest := []) (C_X6_isEdge hok hl eq1) (mg_o hok) rfl rfl nX6_isEdge q1845 q1847 qs58 q137 q1848 dX6_can_37 rfl (by decide) (by decide) (Nat.le_of_ble_eq_true rfl) (Nat.le_refl _) (Nat.le_refl _) (aP1_i ?_) aP1_x
    refine aw_if_eq 61 dX6_can_40 (by decide) (fun c2 => ?_) (fun c2 => ?_)
    · have hf := it_t c2 hf
      refine aw_iconst (v := 0) dX6_can_61 (by decide) ?_
      cases hf
      exact aw_zret rfl rfl dX6_can_62 aP1_rfl (Nat.le_refl _) (Nat.le_refl _)
    · have hf := it_f c2 hf
      refine aw_aload_n 0 dX6_can_43 rfl rfl ?_
      refine aw_get (v := .ref (ad 0)) (mg_o hok) rfl in_X6 0 (by decide) q1739 (Or.inl rfl) rfl dX6_can_44 ?_
      refine aw_iconst (v := 3) dX6_can_47 (by decide) ?_
      refine aw_aload_n 0 dX6_can_48 rfl rfl ?_
      refine aw_get (v := .int (st.1 5)) (mg_o hok) rfl in_X6 8 (by decide) q1747 (Or.inl rfl) rfl dX6_can_49 ?_
      refine aw_iadd dX6_can_52 ?_
      obtain ⟨j3, z4, ej3, hf⟩ := ob_s hf
      refine aw_ialdj (mg_0 hok) z4 ej3 dX6_can_53 ?_
      refine aw_if_le 61 dX6_can_54 (by decide) (fun c5 => ?_) (fun c5 => ?_)
      · have hf := it_t c5 hf
        refine aw_iconst (v := 0) dX6_can_61 (by decide) ?_
        cases hf
        exact aw_zret rfl rfl dX6_can_62 aP1_rfl (Nat.le_refl _) (Nat.le_refl _)
      · have hf := it_f c5 hf
        refine aw_iconst (v := 1) dX6_can_57 (by decide) ?_
        refine aw_goto 62 dX6_can_58 (by decide) ?_
        cases hf
        exact aw_zret rfl rfl dX6_can_62 aP1_rfl (Nat.le_refl _) (Nat.le_refl _)
  have hf := it_f c6 hf
  by_cases c11 : (st.1 4) = 3
  · have hf := it_t c11 hf
    have ex : (st.1 4).toInt = 3 := by rw [c11]; decide
    refine aw_tableIn 63 dX6_can_4 (by rw [ex]; decide) (by rw [ex]; decide) (by rw [ex]; rfl) (by decide) ?_
    refine aw_aload_n 0 dX6_can_63 rfl rfl ?_
    refine aw_aload_n 0 dX6_can_64 rfl rfl ?_
    refine aw_get (v := .int (st.1 5)) (mg_o hok) rfl in_X6 8 (by decide) q1747 (Or.inl rfl) rfl dX6_can_65 ?_
    obtain ⟨q7, eq7, hf⟩ := Option.bind_eq_some_iff.mp hf
    refine aw_callV (rest := []) (C_X6_isCell hok hl eq7) (mg_o hok) rfl rfl nX6_isCell q1962 q1964 qs73 q137 q1965 dX6_can_68 rfl (by decide) (by decide) (Nat.le_of_ble_eq_true rfl) (Nat.le_refl _) (Nat.le_refl _) (aP1_i ?_) aP1_x
    refine aw_if_eq 86 dX6_can_71 (by decide) (fun c8 => ?_) (fun c8 => ?_)
    · have hf := it_t c8 hf
      refine aw_iconst (v := 0) dX6_can_86 (by decide) ?_
      cases hf
      exact aw_zret rfl rfl dX6_can_87 aP1_rfl (Nat.le_refl _) (Nat.le_refl _)
    · have hf := it_f c8 hf
      refine aw_aload_n 0 dX6_can_74 rfl rfl ?_
      obtain ⟨q9, eq9, hf⟩ := Option.bind_eq_some_iff.mp hf
      refine aw_callV (rest := []) (C_X6_thing hok hl eq9) (mg_o hok) rfl rfl nX6_thing q2267 q2269 qs116 q137 q2270 dX6_can_75 rfl (by decide) (by decide) (Nat.le_of_ble_eq_true rfl) (Nat.le_refl _) (Nat.le_refl _) (aP1_i ?_) aP1_x
      refine aw_iconst (v := (-1)) dX6_can_78 (by decide) ?_
      refine aw_icmp_eq 86 dX6_can_79 (by decide) (fun c10 => ?_) (fun c10 => ?_)
      · have hf := it_t c10 hf
        refine aw_iconst (v := 0) dX6_can_86 (by decide) ?_
        cases hf
        exact aw_zret rfl rfl dX6_can_87 aP1_rfl (Nat.le_refl _) (Nat.le_refl _)
      · have hf := it_f c10 hf
        refine aw_iconst (v := 1) dX6_can_82 (by decide) ?_
        refine aw_goto 87 dX6_can_83 (by decide) ?_
        cases hf
        exact aw_zret rfl rfl dX6_can_87 aP1_rfl (Nat.le_refl _) (Nat.le_refl _)
  have hf := it_f c11 hf
  by_cases c21 : (st.1 4) = 4
  · have hf := it_t c21 hf
    have ex : (st.1 4).toInt = 4 := by rw [c21]; decide
    refine aw_tableIn 88 dX6_can_4 (by rw [ex]; decide) (by rw [ex]; decide) (by rw [ex]; rfl) (by decide) ?_
    refine aw_aload_n 0 dX6_can_88 rfl rfl ?_
    refine aw_aload_n 0 dX6_can_89 rfl rfl ?_
    refine aw_get (v := .int (st.1 5)) (mg_o hok) rfl in_X6 8 (by decide) q1747 (Or.inl rfl) rfl dX6_can_90 ?_
    obtain ⟨q12, eq12, hf⟩ := Option.bind_eq_some_iff.mp hf
    refine aw_callV (rest := []) (C_X6_isCell hok hl eq12) (mg_o hok) rfl rfl nX6_isCell q1962 q1964 qs73 q137 q1965 dX6_can_93 rfl (by decide) (by decide) (Nat.le_of_ble_eq_true rfl) (Nat.le_refl _) (Nat.le_refl _) (aP1_i ?_) aP1_x
    refine aw_if_eq 133 dX6_can_96 (by decide) (fun c13 => ?_) (fun c13 => ?_)
    · have hf := it_t c13 hf
      refine aw_iconst (v := 0) dX6_can_133 (by decide) ?_
      cases hf
      exact aw_zret rfl rfl dX6_can_134 aP1_rfl (Nat.le_refl _) (Nat.le_refl _)
    · have hf := it_f c13 hf
      refine aw_aload_n 0 dX6_can_99 rfl rfl ?_
      obtain ⟨q14, eq14, hf⟩ := Option.bind_eq_some_iff.mp hf
      refine aw_callV (rest := []) (C_X6_thing hok hl eq14) (mg_o hok) rfl rfl nX6_thing q2267 q2269 qs116 q137 q2270 dX6_can_100 rfl (by decide) (by decide) (Nat.le_of_ble_eq_true rfl) (Nat.le_refl _) (Nat.le_refl _) (aP1_i ?_) aP1_x
      refine aw_iconst (v := (-1)) dX6_can_103 (by decide) ?_
      refine aw_icmp_eq 133 dX6_can_104 (by decide) (fun c15 => ?_) (fun c15 => ?_)
      · have hf := it_t c15 hf
        refine aw_iconst (v := 0) dX6_can_133 (by decide) ?_
        cases hf
        exact aw_zret rfl rfl dX6_can_134 aP1_rfl (Nat.le_refl _) (Nat.le_refl _)
      · have hf := it_f c15 hf
        refine aw_aload_n 0 dX6_can_107 rfl rfl ?_
        refine aw_get (v := .ref (ad 0)) (mg_o hok) rfl in_X6 0 (by decide) q1739 (Or.inl rfl) rfl dX6_can_108 ?_
        refine aw_bipush (v := 23) dX6_can_111 (by decide) ?_
        refine aw_aload_n 0 dX6_can_113 rfl rfl ?_
        refine aw_get (v := .int (st.1 5)) (mg_o hok) rfl in_X6 8 (by decide) q1747 (Or.inl rfl) rfl dX6_can_114 ?_
        refine aw_iadd dX6_can_117 ?_
        obtain ⟨j16, z17, ej16, hf⟩ := ob_s hf
        refine aw_ialdj (mg_0 hok) z17 ej16 dX6_can_118 ?_
        refine aw_aload_n 0 dX6_can_119 rfl rfl ?_
        obtain ⟨q18, eq18, hf⟩ := Option.bind_eq_some_iff.mp hf
        refine aw_callV (rest := [.int (st.2.1 0 j16)]) (C_X6_thing hok hl eq18) (mg_o hok) rfl rfl nX6_thing q2267 q2269 qs116 q137 q2270 dX6_can_120 rfl (by decide) (by decide) (Nat.le_of_ble_eq_true rfl) (Nat.le_refl _) (Nat.le_refl _) (aP1_i ?_) aP1_x
        obtain ⟨q19, eq19, hf⟩ := Option.bind_eq_some_iff.mp hf
        refine aw_callS (rest := []) (C_X6_has hl eq19) nX6_has q1903 q1904 q137 q1905 dX6_can_123 rfl (by decide) (by decide) (Nat.le_of_ble_eq_true rfl) (Nat.le_refl _) (Nat.le_refl _) (aP1_i ?_) aP1_x
        refine aw_if_eq 133 dX6_can_126 (by decide) (fun c20 => ?_) (fun c20 => ?_)
        · have hf := it_t c20 hf
          refine aw_iconst (v := 0) dX6_can_133 (by decide) ?_
          cases hf
          exact aw_zret rfl rfl dX6_can_134 aP1_rfl (Nat.le_refl _) (Nat.le_refl _)
        · have hf := it_f c20 hf
          refine aw_iconst (v := 1) dX6_can_129 (by decide) ?_
          refine aw_goto 134 dX6_can_130 (by decide) ?_
          cases hf
          exact aw_zret rfl rfl dX6_can_134 aP1_rfl (Nat.le_refl _) (Nat.le_refl _)
  have hf := it_f c21 hf
  refine aw_tableOut 135 dX6_can_4 (by have ec6 := lv_neT (a := 2) c6 (by decide); have ec11 := lv_neT (a := 3) c11 (by decide); have ec21 := lv_neT (a := 4) c21 (by decide); omega) (by decide) ?_
  refine aw_aload_n 0 dX6_can_135 rfl rfl ?_
  refine aw_aload_n 0 dX6_can_136 rfl rfl ?_
  refine aw_get (v := .int (st.1 5)) (mg_o hok) rfl in_X6 8 (by decide) q1747 (Or.inl rfl) rfl dX6_can_137 ?_
  obtain ⟨q22, eq22, hf⟩ := Option.bind_eq_some_iff.mp hf
  refine aw_callV (rest := []) (C_X6_isEdge hok hl eq22) (mg_o hok) rfl rfl nX6_isEdge q1845 q1847 qs58 q137 q1848 dX6_can_140 rfl (by decide) (by decide) (Nat.le_of_ble_eq_true rfl) (Nat.le_refl _) (Nat.le_refl _) (aP1_i ?_) aP1_x
  refine aw_if_eq 161 dX6_can_143 (by decide) (fun c23 => ?_) (fun c23 => ?_)
  · have hf := it_t c23 hf
    refine aw_iconst (v := 0) dX6_can_161 (by decide) ?_
    cases hf
    exact aw_zret rfl rfl dX6_can_162 aP1_rfl (Nat.le_refl _) (Nat.le_refl _)
  · have hf := it_f c23 hf
    refine aw_aload_n 0 dX6_can_146 rfl rfl ?_
    refine aw_aload_n 0 dX6_can_147 rfl rfl ?_
    refine aw_get (v := .int (st.1 6)) (mg_o hok) rfl in_X6 9 (by decide) q1748 (Or.inl rfl) rfl dX6_can_148 ?_
    obtain ⟨q24, eq24, hf⟩ := Option.bind_eq_some_iff.mp hf
    refine aw_callV (rest := []) (C_X6_isLetter hok hl eq24) (mg_o hok) rfl rfl nX6_isLetter q1853 q1855 qs60 q137 q1856 dX6_can_151 rfl (by decide) (by decide) (Nat.le_of_ble_eq_true rfl) (Nat.le_refl _) (Nat.le_refl _) (aP1_i ?_) aP1_x
    refine aw_if_eq 161 dX6_can_154 (by decide) (fun c25 => ?_) (fun c25 => ?_)
    · have hf := it_t c25 hf
      refine aw_iconst (v := 0) dX6_can_161 (by decide) ?_
      cases hf
      exact aw_zret rfl rfl dX6_can_162 aP1_rfl (Nat.le_refl _) (Nat.le_refl _)
    · have hf := it_f c25 hf
      refine aw_iconst (v := 1) dX6_can_157 (by decide) ?_
      refine aw_goto 162 dX6_can_158 (by decide) ?_
      cases hf
      exact aw_zret rfl rfl dX6_can_162 aP1_rfl (Nat.le_refl _) (Nat.le_refl _)
abbrev mX6_does : aM := (yX6_does, cX6_does, 1, some .int, [])
theorem nX6_does : aNoMH yX6_does 0 := by decide +kernel
def S_X6_does (st : MSt) : Option (Int32 × MSt) :=
  if (st.1 4) = 2 then
    ob ((3 : Int32) + (st.1 5)) 432 fun j1 =>
    onm (mA st 0 j1 0) fun u3 =>
    some (0, u3)
  else
    if (st.1 4) = 3 then
      (S_X6_thing st).bind fun q5 =>
      (S_X6_puts (st.1 5) q5 st).bind fun q6 =>
      some (q6.1, q6.2)
    else
      if (st.1 4) = 4 then
        ob ((23 : Int32) + (st.1 5)) 432 fun j8 =>
        (S_X6_thing st).bind fun q10 =>
        ob ((23 : Int32) + (st.1 5)) 432 fun j11 =>
        onm (mA st 0 j11 ((st.2.1 0 j8) &&& (((1 : Int32) <<< (q10 &&& 31)) ^^^ ((-1) : Int32)))) fun u13 =>
        some (0, u13)
      else
        if (st.1 4) = 1 then
          (S_X6_tells (st.1 5) (st.1 6) 1 st).bind fun q17 =>
          some (q17.1, q17.2)
        else
          (S_X6_tells (st.1 5) (st.1 6) 0 st).bind fun q16 =>
          some (q16.1, q16.2)
set_option maxHeartbeats 2000000 in
theorem C_X6_does {l : Launch} {G : aG} {ad : Nat → Nat} {h0 : aH} (hok : mOk ad) (hl : l.stackTraces = false) {st : MSt} {r : Int32 × MSt} (hf : S_X6_does st = some r) : aC l G mX6_does (ws_ yX6_does cX6_does 1 (some .int)) 2 0 0 [.ref (ad 13)] (mh ad st h0) (aP1 (some (.int r.1)) (mh ad r.2 h0)) := by
  refine aC_of (M := mX6_does) rfl (by decide) (Nat.le_of_ble_eq_true rfl) hl ?_
  rw [S_X6_does] at hf
  refine aw_eqv (lv2 := [(0, .ref (ad 13))]) rfl rfl rfl rfl ?_
  refine aw_aload_n 0 dX6_does_0 rfl rfl ?_
  refine aw_get (v := .int (st.1 4)) (mg_o hok) rfl in_X6 7 (by decide) q1746 (Or.inl rfl) rfl dX6_does_1 ?_
  by_cases c4 : (st.1 4) = 2
  · have hf := it_t c4 hf
    have ex : (st.1 4).toInt = 2 := by rw [c4]; decide
    refine aw_tableIn 32 dX6_does_4 (by rw [ex]; decide) (by rw [ex]; decide) (by rw [ex]; rfl) (by decide) ?_
    refine aw_aload_n 0 dX6_does_32 rfl rfl ?_
    refine aw_get (v := .ref (ad 0)) (mg_o hok) rfl in_X6 0 (by decide) q1739 (Or.inl rfl) rfl dX6_does_33 ?_
    refine aw_iconst (v := 3) dX6_does_36 (by decide) ?_
    refine aw_aload_n 0 dX6_does_37 rfl rfl ?_
    refine aw_get (v := .int (st.1 5)) (mg_o hok) rfl in_X6 8 (by decide) q1747 (Or.inl rfl) rfl dX6_does_38 ?_
    refine aw_iadd dX6_does_41 ?_
    refine aw_iconst (v := 0) dX6_does_42 (by decide) ?_
    obtain ⟨j1, z2, ej1, hf⟩ := ob_s hf
    refine aw_iastj (mg_0 hok) z2 ej1 (mu_0 hok) dX6_does_43 ?_
    refine aw_st (fun u3 eu3 => ?_)
    have hf := onm_a eu3 hf
    refine aw_iconst (v := 0) dX6_does_44 (by decide) ?_
    cases hf
    exact aw_iret rfl dX6_does_45 aP1_rfl (Nat.le_refl _) (Nat.le_refl _)
  have hf := it_f c4 hf
  by_cases c7 : (st.1 4) = 3
  · have hf := it_t c7 hf
    have ex : (st.1 4).toInt = 3 := by rw [c7]; decide
    refine aw_tableIn 46 dX6_does_4 (by rw [ex]; decide) (by rw [ex]; decide) (by rw [ex]; rfl) (by decide) ?_
    refine aw_aload_n 0 dX6_does_46 rfl rfl ?_
    refine aw_aload_n 0 dX6_does_47 rfl rfl ?_
    refine aw_get (v := .int (st.1 5)) (mg_o hok) rfl in_X6 8 (by decide) q1747 (Or.inl rfl) rfl dX6_does_48 ?_
    refine aw_aload_n 0 dX6_does_51 rfl rfl ?_
    obtain ⟨q5, eq5, hf⟩ := Option.bind_eq_some_iff.mp hf
    refine aw_callV (rest := [.int (st.1 5), .ref (ad 13)]) (C_X6_thing hok hl eq5) (mg_o hok) rfl rfl nX6_thing q2267 q2269 qs116 q137 q2270 dX6_does_52 rfl (by decide) (by decide) (Nat.le_of_ble_eq_true rfl) (Nat.le_refl _) (Nat.le_refl _) (aP1_i ?_) aP1_x
    obtain ⟨q6, eq6, hf⟩ := Option.bind_eq_some_iff.mp hf
    refine aw_callV (rest := []) (C_X6_puts hok hl eq6) (mg_o hok) rfl rfl nX6_puts q1970 q1972 qs75 q137 q1973 dX6_does_55 rfl (by decide) (by decide) (Nat.le_of_ble_eq_true rfl) (Nat.le_refl _) (Nat.le_refl _) (aP1_i ?_) aP1_x
    cases hf
    exact aw_iret rfl dX6_does_58 aP1_rfl (Nat.le_refl _) (Nat.le_refl _)
  have hf := it_f c7 hf
  by_cases c14 : (st.1 4) = 4
  · have hf := it_t c14 hf
    have ex : (st.1 4).toInt = 4 := by rw [c14]; decide
    refine aw_tableIn 59 dX6_does_4 (by rw [ex]; decide) (by rw [ex]; decide) (by rw [ex]; rfl) (by decide) ?_
    refine aw_aload_n 0 dX6_does_59 rfl rfl ?_
    refine aw_get (v := .ref (ad 0)) (mg_o hok) rfl in_X6 0 (by decide) q1739 (Or.inl rfl) rfl dX6_does_60 ?_
    refine aw_bipush (v := 23) dX6_does_63 (by decide) ?_
    refine aw_aload_n 0 dX6_does_65 rfl rfl ?_
    refine aw_get (v := .int (st.1 5)) (mg_o hok) rfl in_X6 8 (by decide) q1747 (Or.inl rfl) rfl dX6_does_66 ?_
    refine aw_iadd dX6_does_69 ?_
    refine aw_dup2_11 dX6_does_70 rfl rfl ?_
    obtain ⟨j8, z9, ej8, hf⟩ := ob_s hf
    refine aw_ialdj (mg_0 hok) z9 ej8 dX6_does_71 ?_
    refine aw_iconst (v := 1) dX6_does_72 (by decide) ?_
    refine aw_aload_n 0 dX6_does_73 rfl rfl ?_
    obtain ⟨q10, eq10, hf⟩ := Option.bind_eq_some_iff.mp hf
    refine aw_callV (rest := [.int 1, .int (st.2.1 0 j8), .int ((23 : Int32) + (st.1 5)), .ref (ad 0)]) (C_X6_thing hok hl eq10) (mg_o hok) rfl rfl nX6_thing q2267 q2269 qs116 q137 q2270 dX6_does_74 rfl (by decide) (by decide) (Nat.le_of_ble_eq_true rfl) (Nat.le_refl _) (Nat.le_refl _) (aP1_i ?_) aP1_x
    refine aw_ishl dX6_does_77 ?_
    refine aw_iconst (v := (-1)) dX6_does_78 (by decide) ?_
    refine aw_ixor dX6_does_79 ?_
    refine aw_iand dX6_does_80 ?_
    obtain ⟨j11, z12, ej11, hf⟩ := ob_s hf
    refine aw_iastj (mg_0 hok) z12 ej11 (mu_0 hok) dX6_does_81 ?_
    refine aw_st (fun u13 eu13 => ?_)
    have hf := onm_a eu13 hf
    refine aw_iconst (v := 0) dX6_does_82 (by decide) ?_
    cases hf
    exact aw_iret rfl dX6_does_83 aP1_rfl (Nat.le_refl _) (Nat.le_refl _)
  have hf := it_f c14 hf
  refine aw_tableOut 84 dX6_does_4 (by have ec4 := lv_neT (a := 2) c4 (by decide); have ec7 := lv_neT (a := 3) c7 (by decide); have ec14 := lv_neT (a := 4) c14 (by decide); omega) (by decide) ?_
  refine aw_aload_n 0 dX6_does_84 rfl rfl ?_
  refine aw_aload_n 0 dX6_does_85 rfl rfl ?_
  refine aw_get (v := .int (st.1 5)) (mg_o hok) rfl in_X6 8 (by decide) q1747 (Or.inl rfl) rfl dX6_does_86 ?_
  refine aw_aload_n 0 dX6_does_89 rfl rfl ?_
  refine aw_get (v := .int (st.1 6)) (mg_o hok) rfl in_X6 9 (by decide) q1748 (Or.inl rfl) rfl dX6_does_90 ?_
  refine aw_aload_n 0 dX6_does_93 rfl rfl ?_
  refine aw_get (v := .int (st.1 4)) (mg_o hok) rfl in_X6 7 (by decide) q1746 (Or.inl rfl) rfl dX6_does_94 ?_
  refine aw_iconst (v := 1) dX6_does_97 (by decide) ?_
  refine aw_icmp_ne 105 dX6_does_98 (by decide) (fun c15 => ?_) (fun c15 => ?_)
  · have hf := it_f c15 hf
    refine aw_iconst (v := 0) dX6_does_105 (by decide) ?_
    obtain ⟨q16, eq16, hf⟩ := Option.bind_eq_some_iff.mp hf
    refine aw_callV (rest := []) (C_X6_tells hok hl eq16) (mg_o hok) rfl rfl nX6_tells q1857 q1859 qs61 q137 q1860 dX6_does_106 rfl (by decide) (by decide) (Nat.le_of_ble_eq_true rfl) (Nat.le_refl _) (Nat.le_refl _) (aP1_i ?_) aP1_x
    cases hf
    exact aw_iret rfl dX6_does_109 aP1_rfl (Nat.le_refl _) (Nat.le_refl _)
  · have hf := it_t c15 hf
    refine aw_iconst (v := 1) dX6_does_101 (by decide) ?_
    refine aw_goto 106 dX6_does_102 (by decide) ?_
    obtain ⟨q17, eq17, hf⟩ := Option.bind_eq_some_iff.mp hf
    refine aw_callV (rest := []) (C_X6_tells hok hl eq17) (mg_o hok) rfl rfl nX6_tells q1857 q1859 qs61 q137 q1860 dX6_does_106 rfl (by decide) (by decide) (Nat.le_of_ble_eq_true rfl) (Nat.le_refl _) (Nat.le_refl _) (aP1_i ?_) aP1_x
    cases hf
    exact aw_iret rfl dX6_does_109 aP1_rfl (Nat.le_refl _) (Nat.le_refl _)
abbrev mX6_runText : aM := (yX6_runText, cX6_runText, 4, some .int, [])
theorem nX6_runText : aNoMH yX6_runText 0 := by decide +kernel
def S_X6_runText_c37 : Nat → Int32 → Int32 → MSt → Option (Int32 × MSt)
  | 0, _, _, _ => none
  | n + 1, x1, x2, st =>
    if x2 = 0 then
      onm (mI st 1 0) fun u8 =>
      some (x1, u8)
    else
      if (st.1 1) ≤ (st.1 3) then
        onm (mI st 1 0) fun u10 =>
        some (x1, u10)
      else
        (S_X6_readsCommand st).bind fun q11 =>
        if q11.1 = 0 then
          onm (mI q11.2 1 0) fun u13 =>
          some (x1, u13)
        else
          (S_X6_can q11.2).bind fun q14 =>
          if q14 = 0 then
            onm (mI q11.2 3 ((q11.2.1 3) + (1 : Int32))) fun u16 =>
            S_X6_runText_c37 n x1 q14 u16
          else
            (S_X6_does q11.2).bind fun q17 =>
            onm (mI q17.2 3 ((q17.2.1 3) + (1 : Int32))) fun u18 =>
            S_X6_runText_c37 n (x1 + 1) q14 u18
set_option maxHeartbeats 2000000 in
theorem A_X6_runText_c37 {l : Launch} {G : aG} {ad : Nat → Nat} {h0 : aH} (hok : mOk ad) (hl : l.stackTraces = false) {r : Int32 × MSt} : ∀ (n : Nat) (x1 : Int32) (x2 : Int32) (st : MSt), S_X6_runText_c37 n x1 x2 st = some r → AW l G mX6_runText 5 0 0 (aP1 (some (.int r.1)) (mh ad r.2 h0)) 37 [(0, .ref (ad 13)), (1, .int x1), (2, .int x2)] [] (mh ad st h0) 0 0 := by
  intro n
  induction n with
  | zero =>
    intro x1 x2 st hf
    rw [S_X6_runText_c37] at hf
    cases hf
  | succ n ih =>
    intro x1 x2 st hf
    rw [S_X6_runText_c37] at hf
    refine aw_iload_n 2 dX6_runText_37 rfl rfl ?_
    refine aw_if_eq 89 dX6_runText_38 (by decide) (fun c7 => ?_) (fun c7 => ?_)
    · have hf := it_t c7 hf
      refine aw_aload_n 0 dX6_runText_89 rfl rfl ?_
      refine aw_iconst (v := 0) dX6_runText_90 (by decide) ?_
      refine aw_put (mg_o hok) rfl in_X6 tyX6_ok nmX6 4 (by decide) q1743 (Or.inl rfl) rfl rfl rfl (Nat.le_of_ble_eq_true rfl) (mu_i1 hok) dX6_runText_91 ?_
      refine aw_st (fun u8 eu8 => ?_)
      have hf := onm_a eu8 hf
      refine aw_iload_n 1 dX6_runText_94 rfl rfl ?_
      cases hf
      exact aw_iret rfl dX6_runText_95 aP1_rfl (Nat.le_refl _) (Nat.le_refl _)
    · have hf := it_f c7 hf
      refine aw_aload_n 0 dX6_runText_41 rfl rfl ?_
      refine aw_get (v := .int (st.1 3)) (mg_o hok) rfl in_X6 6 (by decide) q1745 (Or.inl rfl) rfl dX6_runText_42 ?_
      refine aw_aload_n 0 dX6_runText_45 rfl rfl ?_
      refine aw_get (v := .int (st.1 1)) (mg_o hok) rfl in_X6 4 (by decide) q1743 (Or.inl rfl) rfl dX6_runText_46 ?_
      refine aw_icmp_ge 89 dX6_runText_49 (by decide) (fun c9 => ?_) (fun c9 => ?_)
      · have hf := it_t c9 hf
        refine aw_aload_n 0 dX6_runText_89 rfl rfl ?_
        refine aw_iconst (v := 0) dX6_runText_90 (by decide) ?_
        refine aw_put (mg_o hok) rfl in_X6 tyX6_ok nmX6 4 (by decide) q1743 (Or.inl rfl) rfl rfl rfl (Nat.le_of_ble_eq_true rfl) (mu_i1 hok) dX6_runText_91 ?_
        refine aw_st (fun u10 eu10 => ?_)
        have hf := onm_a eu10 hf
        refine aw_iload_n 1 dX6_runText_94 rfl rfl ?_
        cases hf
        exact aw_iret rfl dX6_runText_95 aP1_rfl (Nat.le_refl _) (Nat.le_refl _)
      · have hf := it_f c9 hf
        refine aw_aload_n 0 dX6_runText_52 rfl rfl ?_
        obtain ⟨q11, eq11, hf⟩ := Option.bind_eq_some_iff.mp hf
        refine aw_callV (rest := []) (C_X6_readsCommand hok hl eq11) (mg_o hok) rfl rfl nX6_readsCommand q2235 q2237 qs109 q137 q2238 dX6_runText_53 rfl (by decide) (by decide) (Nat.le_of_ble_eq_true rfl) (Nat.le_refl _) (Nat.le_refl _) (aP1_i ?_) aP1_x
        refine aw_if_eq 89 dX6_runText_56 (by decide) (fun c12 => ?_) (fun c12 => ?_)
        · have hf := it_t c12 hf
          refine aw_aload_n 0 dX6_runText_89 rfl rfl ?_
          refine aw_iconst (v := 0) dX6_runText_90 (by decide) ?_
          refine aw_put (mg_o hok) rfl in_X6 tyX6_ok nmX6 4 (by decide) q1743 (Or.inl rfl) rfl rfl rfl (Nat.le_of_ble_eq_true rfl) (mu_i1 hok) dX6_runText_91 ?_
          refine aw_st (fun u13 eu13 => ?_)
          have hf := onm_a eu13 hf
          refine aw_iload_n 1 dX6_runText_94 rfl rfl ?_
          cases hf
          exact aw_iret rfl dX6_runText_95 aP1_rfl (Nat.le_refl _) (Nat.le_refl _)
        · have hf := it_f c12 hf
          refine aw_aload_n 0 dX6_runText_59 rfl rfl ?_
          obtain ⟨q14, eq14, hf⟩ := Option.bind_eq_some_iff.mp hf
          refine aw_callV (rest := []) (C_X6_can hok hl eq14) (mg_o hok) rfl rfl nX6_can q2263 q2265 qs115 q137 q2266 dX6_runText_60 rfl (by decide) (by decide) (Nat.le_of_ble_eq_true rfl) (Nat.le_refl _) (Nat.le_refl _) (aP1_i ?_) aP1_x
          refine aw_istore_n (lv' := [(2, .int q14), (0, .ref (ad 13)), (1, .int x1)]) dX6_runText_63 rfl (Nat.le_of_ble_eq_true rfl) rfl ?_
          refine aw_iload_n 0 dX6_runText_64 rfl rfl ?_
          refine aw_if_eq 76 dX6_runText_65 (by decide) (fun c15 => ?_) (fun c15 => ?_)
          · have hf := it_t c15 hf
            refine aw_aload_n 1 dX6_runText_76 rfl rfl ?_
            refine aw_dup dX6_runText_77 rfl ?_
            refine aw_get (v := .int (q11.2.1 3)) (mg_o hok) rfl in_X6 6 (by decide) q1745 (Or.inl rfl) rfl dX6_runText_78 ?_
            refine aw_iconst (v := 1) dX6_runText_81 (by decide) ?_
            refine aw_iadd dX6_runText_82 ?_
            refine aw_put (mg_o hok) rfl in_X6 tyX6_ok nmX6 6 (by decide) q1745 (Or.inl rfl) rfl rfl rfl (Nat.le_of_ble_eq_true rfl) (mu_i3 hok) dX6_runText_83 ?_
            refine aw_st (fun u16 eu16 => ?_)
            have hf := onm_a eu16 hf
            refine aw_goto 37 dX6_runText_86 (by decide) ?_
            refine aw_sub [1, 2, 0] rfl ?_
            exact ih x1 q14 u16 hf
          · have hf := it_f c15 hf
            refine aw_aload_n 1 dX6_runText_68 rfl rfl ?_
            obtain ⟨q17, eq17, hf⟩ := Option.bind_eq_some_iff.mp hf
            refine aw_callV (rest := []) (C_X6_does hok hl eq17) (mg_o hok) rfl rfl nX6_does q2271 q2273 qs117 q137 q2274 dX6_runText_69 rfl (by decide) (by decide) (Nat.le_of_ble_eq_true rfl) (Nat.le_refl _) (Nat.le_refl _) (aP1_i ?_) aP1_x
            refine aw_istore_n (lv' := [(3, .int q17.1), (2, .int q14), (0, .ref (ad 13)), (1, .int x1)]) dX6_runText_72 rfl (Nat.le_of_ble_eq_true rfl) rfl ?_
            refine aw_iinc 3 (v := x1 + 1) (lv' := [(1, .int (x1 + 1)), (3, .int q17.1), (2, .int q14), (0, .ref (ad 13))]) dX6_runText_73 rfl rfl (Nat.le_of_ble_eq_true rfl) rfl ?_
            refine aw_aload_n 3 dX6_runText_76 rfl rfl ?_
            refine aw_dup dX6_runText_77 rfl ?_
            refine aw_get (v := .int (q17.2.1 3)) (mg_o hok) rfl in_X6 6 (by decide) q1745 (Or.inl rfl) rfl dX6_runText_78 ?_
            refine aw_iconst (v := 1) dX6_runText_81 (by decide) ?_
            refine aw_iadd dX6_runText_82 ?_
            refine aw_put (mg_o hok) rfl in_X6 tyX6_ok nmX6 6 (by decide) q1745 (Or.inl rfl) rfl rfl rfl (Nat.le_of_ble_eq_true rfl) (mu_i3 hok) dX6_runText_83 ?_
            refine aw_st (fun u18 eu18 => ?_)
            have hf := onm_a eu18 hf
            refine aw_goto 37 dX6_runText_86 (by decide) ?_
            refine aw_sub [3, 0, 2] rfl ?_
            exact ih (x1 + 1) q14 u18 hf
def S_X6_runText (n : Nat) (st : MSt) : Option (Int32 × MSt) :=
  (S_X6_error n st).bind fun q1 =>
  if q1.1 = ((-1)) then
    (S_X6_goes 1 1 1 q1.2).bind fun q19 =>
    if q19.1 = 0 then
      some (0, q19.2)
    else
      (S_X6_records n q19.2).bind fun q21 =>
      onm (mI q21 3 0) fun u22 =>
      S_X6_runText_c37 n 0 1 u22
  else
    (S_X6_goes 0 1 1 q1.2).bind fun q3 =>
    if q3.1 = 0 then
      some (0, q3.2)
    else
      (S_X6_records n q3.2).bind fun q5 =>
      onm (mI q5 3 0) fun u6 =>
      S_X6_runText_c37 n 0 1 u6
set_option maxHeartbeats 2000000 in
theorem C_X6_runText {l : Launch} {G : aG} {ad : Nat → Nat} {h0 : aH} (hok : mOk ad) (hl : l.stackTraces = false) {n : Nat} {st : MSt} {r : Int32 × MSt} (hf : S_X6_runText n st = some r) : aC l G mX6_runText (ws_ yX6_runText cX6_runText 4 (some .int)) 5 0 0 [.ref (ad 13)] (mh ad st h0) (aP1 (some (.int r.1)) (mh ad r.2 h0)) := by
  refine aC_of (M := mX6_runText) rfl (by decide) (Nat.le_of_ble_eq_true rfl) hl ?_
  rw [S_X6_runText] at hf
  refine aw_eqv (lv2 := [(0, .ref (ad 13))]) rfl rfl rfl rfl ?_
  refine aw_aload_n 0 dX6_runText_0 rfl rfl ?_
  refine aw_aload_n 0 dX6_runText_1 rfl rfl ?_
  obtain ⟨q1, eq1, hf⟩ := Option.bind_eq_some_iff.mp hf
  refine aw_callV (rest := [.ref (ad 13)]) (C_X6_error hok hl eq1) (mg_o hok) rfl rfl nX6_error q2231 q2233 qs108 q137 q2234 dX6_runText_2 rfl (by decide) (by decide) (Nat.le_of_ble_eq_true rfl) (Nat.le_refl _) (Nat.le_refl _) (aP1_i ?_) aP1_x
  refine aw_iconst (v := (-1)) dX6_runText_5 (by decide) ?_
  refine aw_icmp_ne 13 dX6_runText_6 (by decide) (fun c2 => ?_) (fun c2 => ?_)
  · have hf := it_f c2 hf
    refine aw_iconst (v := 0) dX6_runText_13 (by decide) ?_
    refine aw_iconst (v := 1) dX6_runText_14 (by decide) ?_
    refine aw_iconst (v := 1) dX6_runText_15 (by decide) ?_
    obtain ⟨q3, eq3, hf⟩ := Option.bind_eq_some_iff.mp hf
    refine aw_callV (rest := []) (C_X6_goes hok hl eq3) (mg_o hok) rfl rfl nX6_goes q1825 q1827 qs55 q137 q1828 dX6_runText_16 rfl (by decide) (by decide) (Nat.le_of_ble_eq_true rfl) (Nat.le_refl _) (Nat.le_refl _) (aP1_i ?_) aP1_x
    refine aw_if_ne 24 dX6_runText_19 (by decide) (fun c4 => ?_) (fun c4 => ?_)
    · have hf := it_f c4 hf
      refine aw_aload_n 0 dX6_runText_24 rfl rfl ?_
      obtain ⟨q5, eq5, hf⟩ := Option.bind_eq_some_iff.mp hf
      refine aw_callV (rest := []) (C_X6_records hok hl eq5) (mg_o hok) rfl rfl nX6_records q1829 q1831 qs56 q137 q1832 dX6_runText_25 rfl (by decide) (by decide) (Nat.le_of_ble_eq_true rfl) (Nat.le_refl _) (Nat.le_refl _) (aP1_v ?_) aP1_x
      refine aw_aload_n 0 dX6_runText_28 rfl rfl ?_
      refine aw_iconst (v := 0) dX6_runText_29 (by decide) ?_
      refine aw_put (mg_o hok) rfl in_X6 tyX6_ok nmX6 6 (by decide) q1745 (Or.inl rfl) rfl rfl rfl (Nat.le_of_ble_eq_true rfl) (mu_i3 hok) dX6_runText_30 ?_
      refine aw_st (fun u6 eu6 => ?_)
      have hf := onm_a eu6 hf
      refine aw_iconst (v := 0) dX6_runText_33 (by decide) ?_
      refine aw_istore_n (lv' := [(1, .int 0), (0, .ref (ad 13))]) dX6_runText_34 rfl (Nat.le_of_ble_eq_true rfl) rfl ?_
      refine aw_iconst (v := 1) dX6_runText_35 (by decide) ?_
      refine aw_istore_n (lv' := [(2, .int 1), (1, .int 0), (0, .ref (ad 13))]) dX6_runText_36 rfl (Nat.le_of_ble_eq_true rfl) rfl ?_
      refine aw_sub [2, 1, 0] rfl ?_
      exact A_X6_runText_c37 hok hl n 0 1 u6 hf
    · have hf := it_t c4 hf
      refine aw_iconst (v := 0) dX6_runText_22 (by decide) ?_
      cases hf
      exact aw_iret rfl dX6_runText_23 aP1_rfl (Nat.le_refl _) (Nat.le_refl _)
  · have hf := it_t c2 hf
    refine aw_iconst (v := 1) dX6_runText_9 (by decide) ?_
    refine aw_goto 14 dX6_runText_10 (by decide) ?_
    refine aw_iconst (v := 1) dX6_runText_14 (by decide) ?_
    refine aw_iconst (v := 1) dX6_runText_15 (by decide) ?_
    obtain ⟨q19, eq19, hf⟩ := Option.bind_eq_some_iff.mp hf
    refine aw_callV (rest := []) (C_X6_goes hok hl eq19) (mg_o hok) rfl rfl nX6_goes q1825 q1827 qs55 q137 q1828 dX6_runText_16 rfl (by decide) (by decide) (Nat.le_of_ble_eq_true rfl) (Nat.le_refl _) (Nat.le_refl _) (aP1_i ?_) aP1_x
    refine aw_if_ne 24 dX6_runText_19 (by decide) (fun c20 => ?_) (fun c20 => ?_)
    · have hf := it_f c20 hf
      refine aw_aload_n 0 dX6_runText_24 rfl rfl ?_
      obtain ⟨q21, eq21, hf⟩ := Option.bind_eq_some_iff.mp hf
      refine aw_callV (rest := []) (C_X6_records hok hl eq21) (mg_o hok) rfl rfl nX6_records q1829 q1831 qs56 q137 q1832 dX6_runText_25 rfl (by decide) (by decide) (Nat.le_of_ble_eq_true rfl) (Nat.le_refl _) (Nat.le_refl _) (aP1_v ?_) aP1_x
      refine aw_aload_n 0 dX6_runText_28 rfl rfl ?_
      refine aw_iconst (v := 0) dX6_runText_29 (by decide) ?_
      refine aw_put (mg_o hok) rfl in_X6 tyX6_ok nmX6 6 (by decide) q1745 (Or.inl rfl) rfl rfl rfl (Nat.le_of_ble_eq_true rfl) (mu_i3 hok) dX6_runText_30 ?_
      refine aw_st (fun u22 eu22 => ?_)
      have hf := onm_a eu22 hf
      refine aw_iconst (v := 0) dX6_runText_33 (by decide) ?_
      refine aw_istore_n (lv' := [(1, .int 0), (0, .ref (ad 13))]) dX6_runText_34 rfl (Nat.le_of_ble_eq_true rfl) rfl ?_
      refine aw_iconst (v := 1) dX6_runText_35 (by decide) ?_
      refine aw_istore_n (lv' := [(2, .int 1), (1, .int 0), (0, .ref (ad 13))]) dX6_runText_36 rfl (Nat.le_of_ble_eq_true rfl) rfl ?_
      refine aw_sub [2, 1, 0] rfl ?_
      exact A_X6_runText_c37 hok hl n 0 1 u22 hf
    · have hf := it_t c20 hf
      refine aw_iconst (v := 0) dX6_runText_22 (by decide) ?_
      cases hf
      exact aw_iret rfl dX6_runText_23 aP1_rfl (Nat.le_refl _) (Nat.le_refl _)
abbrev mX6_undo : aM := (yX6_undo, cX6_undo, 1, some .int, [])
theorem nX6_undo : aNoMH yX6_undo 0 := by decide +kernel
def S_X6_undo_j13 (n : Nat) (xs0 : Int32) (st : MSt) : Option (Int32 × MSt) :=
  (S_X6_goes xs0 1 1 st).bind fun q2 =>
  if q2.1 = 0 then
    some (0, q2.2)
  else
    (S_X6_copies n (q2.2.1 0) 0 q2.2).bind fun q4 =>
    onm (mI q4 0 ((q4.1 0) - (1 : Int32))) fun u5 =>
    some (u5.1 0, u5)
set_option maxHeartbeats 2000000 in
theorem A_X6_undo_j13 {l : Launch} {G : aG} {ad : Nat → Nat} {h0 : aH} (hok : mOk ad) (hl : l.stackTraces = false) {r : Int32 × MSt} : ∀ (n : Nat) (xs0 : Int32) (st : MSt), S_X6_undo_j13 n xs0 st = some r → AW l G mX6_undo 1 0 0 (aP1 (some (.int r.1)) (mh ad r.2 h0)) 13 [(0, .ref (ad 13))] [.int xs0, .ref (ad 13)] (mh ad st h0) 0 0 := by
  intro n xs0 st hf
  rw [S_X6_undo_j13] at hf
  refine aw_iconst (v := 1) dX6_undo_13 (by decide) ?_
  refine aw_iconst (v := 1) dX6_undo_14 (by decide) ?_
  obtain ⟨q2, eq2, hf⟩ := Option.bind_eq_some_iff.mp hf
  refine aw_callV (rest := []) (C_X6_goes hok hl eq2) (mg_o hok) rfl rfl nX6_goes q1825 q1827 qs55 q137 q1828 dX6_undo_15 rfl (by decide) (by decide) (Nat.le_of_ble_eq_true rfl) (Nat.le_refl _) (Nat.le_refl _) (aP1_i ?_) aP1_x
  refine aw_if_ne 23 dX6_undo_18 (by decide) (fun c3 => ?_) (fun c3 => ?_)
  · have hf := it_f c3 hf
    refine aw_aload_n 0 dX6_undo_23 rfl rfl ?_
    refine aw_aload_n 0 dX6_undo_24 rfl rfl ?_
    refine aw_get (v := .int (q2.2.1 0)) (mg_o hok) rfl in_X6 1 (by decide) q1740 (Or.inl rfl) rfl dX6_undo_25 ?_
    refine aw_iconst (v := 0) dX6_undo_28 (by decide) ?_
    obtain ⟨q4, eq4, hf⟩ := Option.bind_eq_some_iff.mp hf
    refine aw_callV (rest := []) (C_X6_copies hok hl eq4) (mg_o hok) rfl rfl nX6_copies q1833 q1835 qs57 q137 q1836 dX6_undo_29 rfl (by decide) (by decide) (Nat.le_of_ble_eq_true rfl) (Nat.le_refl _) (Nat.le_refl _) (aP1_v ?_) aP1_x
    refine aw_aload_n 0 dX6_undo_32 rfl rfl ?_
    refine aw_dup dX6_undo_33 rfl ?_
    refine aw_get (v := .int (q4.1 0)) (mg_o hok) rfl in_X6 1 (by decide) q1740 (Or.inl rfl) rfl dX6_undo_34 ?_
    refine aw_iconst (v := 1) dX6_undo_37 (by decide) ?_
    refine aw_isub dX6_undo_38 ?_
    refine aw_put (mg_o hok) rfl in_X6 tyX6_ok nmX6 1 (by decide) q1740 (Or.inl rfl) rfl rfl rfl (Nat.le_of_ble_eq_true rfl) (mu_i0 hok) dX6_undo_39 ?_
    refine aw_st (fun u5 eu5 => ?_)
    have hf := onm_a eu5 hf
    refine aw_aload_n 0 dX6_undo_42 rfl rfl ?_
    refine aw_get (v := .int (u5.1 0)) (mg_o hok) rfl in_X6 1 (by decide) q1740 (Or.inl rfl) rfl dX6_undo_43 ?_
    cases hf
    exact aw_iret rfl dX6_undo_46 aP1_rfl (Nat.le_refl _) (Nat.le_refl _)
  · have hf := it_t c3 hf
    refine aw_iconst (v := 0) dX6_undo_21 (by decide) ?_
    cases hf
    exact aw_iret rfl dX6_undo_22 aP1_rfl (Nat.le_refl _) (Nat.le_refl _)
def S_X6_undo (n : Nat) (st : MSt) : Option (Int32 × MSt) :=
  if (st.1 0) ≤ 0 then
    S_X6_undo_j13 n 0 st
  else
    S_X6_undo_j13 n 1 st
set_option maxHeartbeats 2000000 in
theorem C_X6_undo {l : Launch} {G : aG} {ad : Nat → Nat} {h0 : aH} (hok : mOk ad) (hl : l.stackTraces = false) {n : Nat} {st : MSt} {r : Int32 × MSt} (hf : S_X6_undo n st = some r) : aC l G mX6_undo (ws_ yX6_undo cX6_undo 1 (some .int)) 1 0 0 [.ref (ad 13)] (mh ad st h0) (aP1 (some (.int r.1)) (mh ad r.2 h0)) := by
  refine aC_of (M := mX6_undo) rfl (by decide) (Nat.le_of_ble_eq_true rfl) hl ?_
  rw [S_X6_undo] at hf
  refine aw_eqv (lv2 := [(0, .ref (ad 13))]) rfl rfl rfl rfl ?_
  refine aw_aload_n 0 dX6_undo_0 rfl rfl ?_
  refine aw_aload_n 0 dX6_undo_1 rfl rfl ?_
  refine aw_get (v := .int (st.1 0)) (mg_o hok) rfl in_X6 1 (by decide) q1740 (Or.inl rfl) rfl dX6_undo_2 ?_
  refine aw_if_le 12 dX6_undo_5 (by decide) (fun c1 => ?_) (fun c1 => ?_)
  · have hf := it_t c1 hf
    refine aw_iconst (v := 0) dX6_undo_12 (by decide) ?_
    exact A_X6_undo_j13 hok hl n 0 st hf
  · have hf := it_f c1 hf
    refine aw_iconst (v := 1) dX6_undo_8 (by decide) ?_
    refine aw_goto 13 dX6_undo_9 (by decide) ?_
    exact A_X6_undo_j13 hok hl n 1 st hf
abbrev mX6_undoCount : aM := (yX6_undoCount, cX6_undoCount, 1, some .int, [])
theorem nX6_undoCount : aNoMH yX6_undoCount 0 := by decide +kernel
def S_X6_undoCount (st : MSt) : Option (Int32 × MSt) :=
  (S_X6_told (st.1 0) st).bind fun q1 =>
  some (q1.1, q1.2)
set_option maxHeartbeats 2000000 in
theorem C_X6_undoCount {l : Launch} {G : aG} {ad : Nat → Nat} {h0 : aH} (hok : mOk ad) (hl : l.stackTraces = false) {st : MSt} {r : Int32 × MSt} (hf : S_X6_undoCount st = some r) : aC l G mX6_undoCount (ws_ yX6_undoCount cX6_undoCount 1 (some .int)) 1 0 0 [.ref (ad 13)] (mh ad st h0) (aP1 (some (.int r.1)) (mh ad r.2 h0)) := by
  refine aC_of (M := mX6_undoCount) rfl (by decide) (Nat.le_of_ble_eq_true rfl) hl ?_
  rw [S_X6_undoCount] at hf
  refine aw_eqv (lv2 := [(0, .ref (ad 13))]) rfl rfl rfl rfl ?_
  refine aw_aload_n 0 dX6_undoCount_0 rfl rfl ?_
  refine aw_aload_n 0 dX6_undoCount_1 rfl rfl ?_
  refine aw_get (v := .int (st.1 0)) (mg_o hok) rfl in_X6 1 (by decide) q1740 (Or.inl rfl) rfl dX6_undoCount_2 ?_
  obtain ⟨q1, eq1, hf⟩ := Option.bind_eq_some_iff.mp hf
  refine aw_callV (rest := []) (C_X6_told hok hl eq1) (mg_o hok) rfl rfl nX6_told q1918 q1920 qs69 q137 q1921 dX6_undoCount_5 rfl (by decide) (by decide) (Nat.le_of_ble_eq_true rfl) (Nat.le_refl _) (Nat.le_refl _) (aP1_i ?_) aP1_x
  cases hf
  exact aw_iret rfl dX6_undoCount_8 aP1_rfl (Nat.le_refl _) (Nat.le_refl _)
abbrev mX6_isASlot : aM := (yX6_isASlot, cX6_isASlot, 1, some .boolean, [])
theorem nX6_isASlot : aNoMH yX6_isASlot 1 := by decide +kernel
def S_X6_isASlot (x0 : Int32) : Option (Int32) :=
  (S_X6_in x0 0 1).bind fun q1 =>
  onr .boolean q1 <|
  some q1
set_option maxHeartbeats 2000000 in
theorem C_X6_isASlot {l : Launch} {G : aG} {h : aH} (hl : l.stackTraces = false) {x0 : Int32} {r : Int32} (hf : S_X6_isASlot x0 = some r) : aC l G mX6_isASlot (ws_ yX6_isASlot cX6_isASlot 1 (some .boolean)) 1 0 0 [.int x0] h (aP1 (some (.int r)) h) := by
  refine aC_of (M := mX6_isASlot) rfl (by decide) (Nat.le_of_ble_eq_true rfl) hl ?_
  rw [S_X6_isASlot] at hf
  refine aw_eqv (lv2 := [(0, .int x0)]) rfl rfl rfl rfl ?_
  refine aw_iload_n 0 dX6_isASlot_0 rfl rfl ?_
  refine aw_iconst (v := 0) dX6_isASlot_1 (by decide) ?_
  refine aw_iconst (v := 1) dX6_isASlot_2 (by decide) ?_
  obtain ⟨q1, eq1, hf⟩ := Option.bind_eq_some_iff.mp hf
  refine aw_callS (rest := []) (C_X6_in hl eq1) nX6_in q1822 q1823 q137 q1824 dX6_isASlot_3 rfl (by decide) (by decide) (Nat.le_of_ble_eq_true rfl) (Nat.le_refl _) (Nat.le_refl _) (aP1_i ?_) aP1_x
  obtain ⟨z2, hf⟩ := onr_s hf
  cases hf
  exact aw_zret rfl z2 dX6_isASlot_6 aP1_rfl (Nat.le_refl _) (Nat.le_refl _)
abbrev mX6_saveState : aM := (yX6_saveState, cX6_saveState, 2, some .int, [])
theorem nX6_saveState : aNoMH yX6_saveState 1 := by decide +kernel
def S_X6_saveState (n : Nat) (x1 : Int32) (st : MSt) : Option (Int32 × MSt) :=
  (S_X6_isASlot x1).bind fun q1 =>
  (S_X6_goes q1 1 1 st).bind fun q2 =>
  if q2.1 = 0 then
    some (0, q2.2)
  else
    ob x1 2 fun j4 =>
    onm (mA q2.2 1 j4 (vp_nar .boolean 1)) fun u6 =>
    (S_X6_copies n 0 ((7 : Int32) + x1) u6).bind fun q7 =>
    (S_X6_tellings n q7).bind fun q8 =>
    some (q8, q7)
set_option maxHeartbeats 2000000 in
theorem C_X6_saveState {l : Launch} {G : aG} {ad : Nat → Nat} {h0 : aH} (hok : mOk ad) (hl : l.stackTraces = false) {n : Nat} {x1 : Int32} {st : MSt} {r : Int32 × MSt} (hf : S_X6_saveState n x1 st = some r) : aC l G mX6_saveState (ws_ yX6_saveState cX6_saveState 2 (some .int)) 2 0 0 [.ref (ad 13), .int x1] (mh ad st h0) (aP1 (some (.int r.1)) (mh ad r.2 h0)) := by
  refine aC_of (M := mX6_saveState) rfl (by decide) (Nat.le_of_ble_eq_true rfl) hl ?_
  rw [S_X6_saveState] at hf
  refine aw_eqv (lv2 := [(0, .ref (ad 13)), (1, .int x1)]) rfl rfl rfl rfl ?_
  refine aw_aload_n 0 dX6_saveState_0 rfl rfl ?_
  refine aw_iload_n 1 dX6_saveState_1 rfl rfl ?_
  obtain ⟨q1, eq1, hf⟩ := Option.bind_eq_some_iff.mp hf
  refine aw_callS (rest := [.ref (ad 13)]) (C_X6_isASlot hl eq1) nX6_isASlot q2287 q2288 q137 q2289 dX6_saveState_2 rfl (by decide) (by decide) (Nat.le_of_ble_eq_true rfl) (Nat.le_refl _) (Nat.le_refl _) (aP1_i ?_) aP1_x
  refine aw_iconst (v := 1) dX6_saveState_5 (by decide) ?_
  refine aw_iconst (v := 1) dX6_saveState_6 (by decide) ?_
  obtain ⟨q2, eq2, hf⟩ := Option.bind_eq_some_iff.mp hf
  refine aw_callV (rest := []) (C_X6_goes hok hl eq2) (mg_o hok) rfl rfl nX6_goes q1825 q1827 qs55 q137 q1828 dX6_saveState_7 rfl (by decide) (by decide) (Nat.le_of_ble_eq_true rfl) (Nat.le_refl _) (Nat.le_refl _) (aP1_i ?_) aP1_x
  refine aw_if_ne 15 dX6_saveState_10 (by decide) (fun c3 => ?_) (fun c3 => ?_)
  · have hf := it_f c3 hf
    refine aw_aload_n 0 dX6_saveState_15 rfl rfl ?_
    refine aw_get (v := .ref (ad 1)) (mg_o hok) rfl in_X6 2 (by decide) q1741 (Or.inl rfl) rfl dX6_saveState_16 ?_
    refine aw_iload_n 1 dX6_saveState_19 rfl rfl ?_
    refine aw_iconst (v := 1) dX6_saveState_20 (by decide) ?_
    obtain ⟨j4, z5, ej4, hf⟩ := ob_s hf
    refine aw_zastj (mg_1 hok) z5 ej4 (mu_1 hok) dX6_saveState_21 ?_
    refine aw_st (fun u6 eu6 => ?_)
    have hf := onm_a eu6 hf
    refine aw_aload_n 0 dX6_saveState_22 rfl rfl ?_
    refine aw_iconst (v := 0) dX6_saveState_23 (by decide) ?_
    refine aw_bipush (v := 7) dX6_saveState_24 (by decide) ?_
    refine aw_iload_n 1 dX6_saveState_26 rfl rfl ?_
    refine aw_iadd dX6_saveState_27 ?_
    obtain ⟨q7, eq7, hf⟩ := Option.bind_eq_some_iff.mp hf
    refine aw_callV (rest := []) (C_X6_copies hok hl eq7) (mg_o hok) rfl rfl nX6_copies q1833 q1835 qs57 q137 q1836 dX6_saveState_28 rfl (by decide) (by decide) (Nat.le_of_ble_eq_true rfl) (Nat.le_refl _) (Nat.le_refl _) (aP1_v ?_) aP1_x
    refine aw_aload_n 0 dX6_saveState_31 rfl rfl ?_
    obtain ⟨q8, eq8, hf⟩ := Option.bind_eq_some_iff.mp hf
    refine aw_callV (rest := []) (C_X6_tellings hok hl eq8) (mg_o hok) rfl rfl nX6_tellings q1872 q1874 qs63 q137 q1875 dX6_saveState_32 rfl (by decide) (by decide) (Nat.le_of_ble_eq_true rfl) (Nat.le_refl _) (Nat.le_refl _) (aP1_i ?_) aP1_x
    cases hf
    exact aw_iret rfl dX6_saveState_35 aP1_rfl (Nat.le_refl _) (Nat.le_refl _)
  · have hf := it_t c3 hf
    refine aw_iconst (v := 0) dX6_saveState_13 (by decide) ?_
    cases hf
    exact aw_iret rfl dX6_saveState_14 aP1_rfl (Nat.le_refl _) (Nat.le_refl _)
abbrev mX6_loadState : aM := (yX6_loadState, cX6_loadState, 3, some .int, [])
theorem nX6_loadState : aNoMH yX6_loadState 1 := by decide +kernel
def S_X6_loadState_j24 (n : Nat) (x1 : Int32) (xs0 : Int32) (st : MSt) : Option (Int32 × MSt) :=
  (S_X6_goes xs0 0 1 st).bind fun q3 =>
  if q3.1 = 0 then
    some (0, q3.2)
  else
    (S_X6_records n q3.2).bind fun q5 =>
    (S_X6_copies n ((7 : Int32) + x1) 0 q5).bind fun q6 =>
    (S_X6_tellings n q6).bind fun q7 =>
    some (q7, q6)
set_option maxHeartbeats 2000000 in
theorem A_X6_loadState_j24 {l : Launch} {G : aG} {ad : Nat → Nat} {h0 : aH} (hok : mOk ad) (hl : l.stackTraces = false) {r : Int32 × MSt} : ∀ (n : Nat) (x1 : Int32) (xs0 : Int32) (st : MSt), S_X6_loadState_j24 n x1 xs0 st = some r → AW l G mX6_loadState 2 0 0 (aP1 (some (.int r.1)) (mh ad r.2 h0)) 24 [(0, .ref (ad 13)), (1, .int x1)] [.int xs0, .ref (ad 13)] (mh ad st h0) 0 0 := by
  intro n x1 xs0 st hf
  rw [S_X6_loadState_j24] at hf
  refine aw_iconst (v := 0) dX6_loadState_24 (by decide) ?_
  refine aw_iconst (v := 1) dX6_loadState_25 (by decide) ?_
  obtain ⟨q3, eq3, hf⟩ := Option.bind_eq_some_iff.mp hf
  refine aw_callV (rest := []) (C_X6_goes hok hl eq3) (mg_o hok) rfl rfl nX6_goes q1825 q1827 qs55 q137 q1828 dX6_loadState_26 rfl (by decide) (by decide) (Nat.le_of_ble_eq_true rfl) (Nat.le_refl _) (Nat.le_refl _) (aP1_i ?_) aP1_x
  refine aw_if_ne 34 dX6_loadState_29 (by decide) (fun c4 => ?_) (fun c4 => ?_)
  · have hf := it_f c4 hf
    refine aw_aload_n 0 dX6_loadState_34 rfl rfl ?_
    obtain ⟨q5, eq5, hf⟩ := Option.bind_eq_some_iff.mp hf
    refine aw_callV (rest := []) (C_X6_records hok hl eq5) (mg_o hok) rfl rfl nX6_records q1829 q1831 qs56 q137 q1832 dX6_loadState_35 rfl (by decide) (by decide) (Nat.le_of_ble_eq_true rfl) (Nat.le_refl _) (Nat.le_refl _) (aP1_v ?_) aP1_x
    refine aw_aload_n 0 dX6_loadState_38 rfl rfl ?_
    refine aw_bipush (v := 7) dX6_loadState_39 (by decide) ?_
    refine aw_iload_n 1 dX6_loadState_41 rfl rfl ?_
    refine aw_iadd dX6_loadState_42 ?_
    refine aw_iconst (v := 0) dX6_loadState_43 (by decide) ?_
    obtain ⟨q6, eq6, hf⟩ := Option.bind_eq_some_iff.mp hf
    refine aw_callV (rest := []) (C_X6_copies hok hl eq6) (mg_o hok) rfl rfl nX6_copies q1833 q1835 qs57 q137 q1836 dX6_loadState_44 rfl (by decide) (by decide) (Nat.le_of_ble_eq_true rfl) (Nat.le_refl _) (Nat.le_refl _) (aP1_v ?_) aP1_x
    refine aw_aload_n 0 dX6_loadState_47 rfl rfl ?_
    obtain ⟨q7, eq7, hf⟩ := Option.bind_eq_some_iff.mp hf
    refine aw_callV (rest := []) (C_X6_tellings hok hl eq7) (mg_o hok) rfl rfl nX6_tellings q1872 q1874 qs63 q137 q1875 dX6_loadState_48 rfl (by decide) (by decide) (Nat.le_of_ble_eq_true rfl) (Nat.le_refl _) (Nat.le_refl _) (aP1_i ?_) aP1_x
    cases hf
    exact aw_iret rfl dX6_loadState_51 aP1_rfl (Nat.le_refl _) (Nat.le_refl _)
  · have hf := it_t c4 hf
    refine aw_iconst (v := 0) dX6_loadState_32 (by decide) ?_
    cases hf
    exact aw_iret rfl dX6_loadState_33 aP1_rfl (Nat.le_refl _) (Nat.le_refl _)
def S_X6_loadState (n : Nat) (x1 : Int32) (st : MSt) : Option (Int32 × MSt) :=
  (S_X6_isASlot x1).bind fun q1 =>
  if q1 = 0 then
    S_X6_loadState_j24 n x1 q1 st
  else
    ob x1 2 fun j8 =>
    if (st.2.1 1 j8) = 0 then
      S_X6_loadState_j24 n x1 q1 st
    else
      (S_X6_goes q1 1 1 st).bind fun q11 =>
      if q11.1 = 0 then
        some (0, q11.2)
      else
        (S_X6_records n q11.2).bind fun q13 =>
        (S_X6_copies n ((7 : Int32) + x1) 0 q13).bind fun q14 =>
        (S_X6_tellings n q14).bind fun q15 =>
        some (q15, q14)
set_option maxHeartbeats 2000000 in
theorem C_X6_loadState {l : Launch} {G : aG} {ad : Nat → Nat} {h0 : aH} (hok : mOk ad) (hl : l.stackTraces = false) {n : Nat} {x1 : Int32} {st : MSt} {r : Int32 × MSt} (hf : S_X6_loadState n x1 st = some r) : aC l G mX6_loadState (ws_ yX6_loadState cX6_loadState 3 (some .int)) 2 0 0 [.ref (ad 13), .int x1] (mh ad st h0) (aP1 (some (.int r.1)) (mh ad r.2 h0)) := by
  refine aC_of (M := mX6_loadState) rfl (by decide) (Nat.le_of_ble_eq_true rfl) hl ?_
  rw [S_X6_loadState] at hf
  refine aw_eqv (lv2 := [(0, .ref (ad 13)), (1, .int x1)]) rfl rfl rfl rfl ?_
  refine aw_iload_n 1 dX6_loadState_0 rfl rfl ?_
  obtain ⟨q1, eq1, hf⟩ := Option.bind_eq_some_iff.mp hf
  refine aw_callS (rest := []) (C_X6_isASlot hl eq1) nX6_isASlot q2287 q2288 q137 q2289 dX6_loadState_1 rfl (by decide) (by decide) (Nat.le_of_ble_eq_true rfl) (Nat.le_refl _) (Nat.le_refl _) (aP1_i ?_) aP1_x
  refine aw_istore_n (lv' := [(2, .int q1), (0, .ref (ad 13)), (1, .int x1)]) dX6_loadState_4 rfl (Nat.le_of_ble_eq_true rfl) rfl ?_
  refine aw_aload_n 1 dX6_loadState_5 rfl rfl ?_
  refine aw_iload_n 0 dX6_loadState_6 rfl rfl ?_
  refine aw_iload_n 0 dX6_loadState_7 rfl rfl ?_
  refine aw_if_eq 24 dX6_loadState_8 (by decide) (fun c2 => ?_) (fun c2 => ?_)
  · have hf := it_t c2 hf
    refine aw_sub [1, 2] rfl ?_
    exact A_X6_loadState_j24 hok hl n x1 q1 st hf
  · have hf := it_f c2 hf
    refine aw_aload_n 1 dX6_loadState_11 rfl rfl ?_
    refine aw_get (v := .ref (ad 1)) (mg_o hok) rfl in_X6 2 (by decide) q1741 (Or.inl rfl) rfl dX6_loadState_12 ?_
    refine aw_iload_n 2 dX6_loadState_15 rfl rfl ?_
    obtain ⟨j8, z9, ej8, hf⟩ := ob_s hf
    refine aw_zaldj (mg_1 hok) z9 ej8 dX6_loadState_16 ?_
    refine aw_if_eq 24 dX6_loadState_17 (by decide) (fun c10 => ?_) (fun c10 => ?_)
    · have hf := it_t c10 hf
      refine aw_sub [1, 2] rfl ?_
      exact A_X6_loadState_j24 hok hl n x1 q1 st hf
    · have hf := it_f c10 hf
      refine aw_iconst (v := 1) dX6_loadState_20 (by decide) ?_
      refine aw_goto 25 dX6_loadState_21 (by decide) ?_
      refine aw_iconst (v := 1) dX6_loadState_25 (by decide) ?_
      obtain ⟨q11, eq11, hf⟩ := Option.bind_eq_some_iff.mp hf
      refine aw_callV (rest := []) (C_X6_goes hok hl eq11) (mg_o hok) rfl rfl nX6_goes q1825 q1827 qs55 q137 q1828 dX6_loadState_26 rfl (by decide) (by decide) (Nat.le_of_ble_eq_true rfl) (Nat.le_refl _) (Nat.le_refl _) (aP1_i ?_) aP1_x
      refine aw_if_ne 34 dX6_loadState_29 (by decide) (fun c12 => ?_) (fun c12 => ?_)
      · have hf := it_f c12 hf
        refine aw_aload_n 1 dX6_loadState_34 rfl rfl ?_
        obtain ⟨q13, eq13, hf⟩ := Option.bind_eq_some_iff.mp hf
        refine aw_callV (rest := []) (C_X6_records hok hl eq13) (mg_o hok) rfl rfl nX6_records q1829 q1831 qs56 q137 q1832 dX6_loadState_35 rfl (by decide) (by decide) (Nat.le_of_ble_eq_true rfl) (Nat.le_refl _) (Nat.le_refl _) (aP1_v ?_) aP1_x
        refine aw_aload_n 1 dX6_loadState_38 rfl rfl ?_
        refine aw_bipush (v := 7) dX6_loadState_39 (by decide) ?_
        refine aw_iload_n 2 dX6_loadState_41 rfl rfl ?_
        refine aw_iadd dX6_loadState_42 ?_
        refine aw_iconst (v := 0) dX6_loadState_43 (by decide) ?_
        obtain ⟨q14, eq14, hf⟩ := Option.bind_eq_some_iff.mp hf
        refine aw_callV (rest := []) (C_X6_copies hok hl eq14) (mg_o hok) rfl rfl nX6_copies q1833 q1835 qs57 q137 q1836 dX6_loadState_44 rfl (by decide) (by decide) (Nat.le_of_ble_eq_true rfl) (Nat.le_refl _) (Nat.le_refl _) (aP1_v ?_) aP1_x
        refine aw_aload_n 1 dX6_loadState_47 rfl rfl ?_
        obtain ⟨q15, eq15, hf⟩ := Option.bind_eq_some_iff.mp hf
        refine aw_callV (rest := []) (C_X6_tellings hok hl eq15) (mg_o hok) rfl rfl nX6_tellings q1872 q1874 qs63 q137 q1875 dX6_loadState_48 rfl (by decide) (by decide) (Nat.le_of_ble_eq_true rfl) (Nat.le_refl _) (Nat.le_refl _) (aP1_i ?_) aP1_x
        cases hf
        exact aw_iret rfl dX6_loadState_51 aP1_rfl (Nat.le_refl _) (Nat.le_refl _)
      · have hf := it_t c12 hf
        refine aw_iconst (v := 0) dX6_loadState_32 (by decide) ?_
        cases hf
        exact aw_iret rfl dX6_loadState_33 aP1_rfl (Nat.le_refl _) (Nat.le_refl _)
