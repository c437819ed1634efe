/-! the JDK methods that are reached: what they ask, and walks (printed by gen2.py) -/
set_option maxRecDepth 100000
def V_J0_init_0 (l : Launch) (G : aG) (d mc ms : Nat) (P : aR → aH → Prop) (x0 : Nat) (h : aH) : Prop :=
  1 ≤ d ∧
  P (.inl none) h
set_option maxHeartbeats 4000000 in
theorem A_J0_init {l : Launch} {G : aG} {d mc ms : Nat} {P : aR → aH → Prop} {x0 : Nat} {h : aH} (hl : l.stackTraces = false) (hv : V_J0_init_0 l G d mc ms P x0 h) : aC l G mJ0_init (wsN mJ0_init) d mc ms [.ref x0] h P := by
  refine aC_ofF (M := mJ0_init) rfl pJ0_init (Nat.le_of_ble_eq_true rfl) hl ?_
  refine aw_eqv (lv2 := [(0, .ref x0)]) rfl rfl rfl rfl ?_
  unfold V_J0_init_0 at hv
  refine aw_aload_n 0 (x := x0) dJ0_init_0 rfl rfl ?_
  obtain ⟨hd9, hv⟩ := hv
  refine aw_objInit q200 q159 q160 hd9 (Nat.le_of_ble_eq_true rfl) dJ0_init_1 ?_
  exact aw_vret rfl dJ0_init_4 hv (Nat.zero_le _) (Nat.zero_le _)
def V_J1_init_0 (l : Launch) (G : aG) (d mc ms : Nat) (P : aR → aH → Prop) (x0 : Nat) (h : aH) : Prop :=
  vC l G mJ0_init (wsN mJ0_init) d mc ms [.ref x0] h 0 0 (xP P) (kV fun h2 c3 s4 => 
  vPut h2 x0 9 0 (.int 0) fun h5 =>
  P (.inl none) h5)
set_option maxHeartbeats 4000000 in
theorem A_J1_init {l : Launch} {G : aG} {d mc ms : Nat} {P : aR → aH → Prop} {x0 : Nat} {h : aH} (hl : l.stackTraces = false) (hv : V_J1_init_0 l G d mc ms P x0 h) : aC l G mJ1_init (wsN mJ1_init) d mc ms [.ref x0] h P := by
  refine aC_ofF (M := mJ1_init) rfl pJ1_init (Nat.le_of_ble_eq_true rfl) hl ?_
  refine aw_eqv (lv2 := [(0, .ref x0)]) rfl rfl rfl rfl ?_
  unfold V_J1_init_0 at hv
  refine aw_aload_n 0 (x := x0) dJ1_init_0 rfl rfl ?_
  obtain ⟨d2, mc2, ms2, Q, hM, hd9, hc9, hs9, hv, hx⟩ := hv
  refine aw_callI (rest := []) rfl hM nJ0_init rfl q197 q198 q123 q199 dJ1_init_1 rfl hd9 (by decide) (Nat.le_of_ble_eq_true rfl) hc9 hs9 ?_ ?_
  rotate_left
  · exact fun E h2 q => aX_out (hx E h2 q) rfl hc9 hs9
  intro v9 h2 hq
  have hv := hv v9 h2 hq
  obtain ⟨rfl, hv⟩ := hv
  refine aw_eqv (pc2 := 4) (st2 := []) rfl rfl rfl rfl ?_
  revert hv hc9 hs9; generalize 0 + mc2 = c3; generalize 0 + ms2 = s4; intro hc9 hs9 hv
  refine aw_aload_n 0 (x := x0) dJ1_init_4 rfl rfl ?_
  refine aw_iconst (v := 0) dJ1_init_5 (by decide) ?_
  obtain ⟨fs, he, hk9, hv⟩ := hv
  refine aw_put he rfl in_J2 tyJ2_ok nmJ2 0 (by decide) q205 (Or.inl rfl) rfl rfl rfl hk9 rfl dJ1_init_6 ?_
  revert hv; generalize aUp h2 x0 (.inr (9, fs.set 0 (.int 0))) = h5; intro hv
  exact aw_vret rfl dJ1_init_9 hv hc9 hs9
def V_J2_init_0 (l : Launch) (G : aG) (d mc ms : Nat) (P : aR → aH → Prop) (x0 : Nat) (h : aH) : Prop :=
  vC l G mJ1_init (wsN mJ1_init) d mc ms [.ref x0] h 0 0 (xP P) (kV fun h2 c3 s4 => 
  vPut h2 x0 9 1 (.ref G.2.1.1) fun h5 =>
  P (.inl none) h5)
set_option maxHeartbeats 4000000 in
theorem A_J2_init {l : Launch} {G : aG} {d mc ms : Nat} {P : aR → aH → Prop} {x0 : Nat} {h : aH} (hl : l.stackTraces = false) (hv : V_J2_init_0 l G d mc ms P x0 h) : aC l G mJ2_init (wsN mJ2_init) d mc ms [.ref x0] h P := by
  refine aC_ofF (M := mJ2_init) rfl pJ2_init (Nat.le_of_ble_eq_true rfl) hl ?_
  refine aw_eqv (lv2 := [(0, .ref x0)]) rfl rfl rfl rfl ?_
  unfold V_J2_init_0 at hv
  refine aw_aload_n 0 (x := x0) dJ2_init_0 rfl rfl ?_
  obtain ⟨d2, mc2, ms2, Q, hM, hd9, hc9, hs9, hv, hx⟩ := hv
  refine aw_callI (rest := []) rfl hM nJ1_init rfl q194 q195 q124 q196 dJ2_init_1 rfl hd9 (by decide) (Nat.le_of_ble_eq_true rfl) hc9 hs9 ?_ ?_
  rotate_left
  · exact fun E h2 q => aX_out (hx E h2 q) rfl hc9 hs9
  intro v9 h2 hq
  have hv := hv v9 h2 hq
  obtain ⟨rfl, hv⟩ := hv
  refine aw_eqv (pc2 := 4) (st2 := []) rfl rfl rfl rfl ?_
  revert hv hc9 hs9; generalize 0 + mc2 = c3; generalize 0 + ms2 = s4; intro hc9 hs9 hv
  refine aw_aload_n 0 (x := x0) dJ2_init_4 rfl rfl ?_
  refine aw_getsE q201 dJ2_init_5 ?_
  obtain ⟨fs, he, hk9, hv⟩ := hv
  refine aw_put he rfl in_J2 tyJ2_ok nmJ2 1 (by decide) q203 (Or.inl rfl) rfl rfl rfl hk9 rfl dJ2_init_8 ?_
  revert hv; generalize aUp h2 x0 (.inr (9, fs.set 1 (.ref G.2.1.1))) = h5; intro hv
  exact aw_vret rfl dJ2_init_11 hv hc9 hs9
def V_J4_max_0 (l : Launch) (G : aG) (d mc ms : Nat) (P : aR → aH → Prop) (x0 : Int32) (x1 : Int32) (h : aH) : Prop :=
  P (.inl (some (.int (if x0 < x1 then x1 else x0)))) h
set_option maxHeartbeats 4000000 in
theorem A_J4_max {l : Launch} {G : aG} {d mc ms : Nat} {P : aR → aH → Prop} {x0 : Int32} {x1 : Int32} {h : aH} (hl : l.stackTraces = false) (hv : V_J4_max_0 l G d mc ms P x0 x1 h) : aC l G mJ4_max (wsN mJ4_max) d mc ms [.int x0, .int x1] h P := by
  refine aC_ofF (M := mJ4_max) rfl pJ4_max (Nat.le_of_ble_eq_true rfl) hl ?_
  refine aw_eqv (lv2 := [(0, .int x0), (1, .int x1)]) rfl rfl rfl rfl ?_
  unfold V_J4_max_0 at hv
  refine aw_iload_n 0 dJ4_max_0 rfl rfl ?_
  refine aw_iload_n 1 dJ4_max_1 rfl rfl ?_
  have J9 : AW l G mJ4_max d mc ms P 10 [(0, .int x0), (1, .int x1)] [.int (if x0 < x1 then x1 else x0)] h 0 0 := by
    exact aw_iret rfl dJ4_max_10 hv (Nat.zero_le _) (Nat.zero_le _)
  refine aw_icmp_lt 9 dJ4_max_2 (by decide) (fun c1 => ?_) (fun c1 => ?_)
  · have J9 := aw_ifT c1 J9
    refine aw_iload_n 1 dJ4_max_9 rfl rfl ?_
    exact J9
  · have J9 := aw_ifF c1 J9
    refine aw_iload_n 0 dJ4_max_5 rfl rfl ?_
    refine aw_goto 10 dJ4_max_6 (by decide) ?_
    exact J9
def V_J4_min_0 (l : Launch) (G : aG) (d mc ms : Nat) (P : aR → aH → Prop) (x0 : Int32) (x1 : Int32) (h : aH) : Prop :=
  P (.inl (some (.int (if x1 < x0 then x1 else x0)))) h
set_option maxHeartbeats 4000000 in
theorem A_J4_min {l : Launch} {G : aG} {d mc ms : Nat} {P : aR → aH → Prop} {x0 : Int32} {x1 : Int32} {h : aH} (hl : l.stackTraces = false) (hv : V_J4_min_0 l G d mc ms P x0 x1 h) : aC l G mJ4_min (wsN mJ4_min) d mc ms [.int x0, .int x1] h P := by
  refine aC_ofF (M := mJ4_min) rfl pJ4_min (Nat.le_of_ble_eq_true rfl) hl ?_
  refine aw_eqv (lv2 := [(0, .int x0), (1, .int x1)]) rfl rfl rfl rfl ?_
  unfold V_J4_min_0 at hv
  refine aw_iload_n 0 dJ4_min_0 rfl rfl ?_
  refine aw_iload_n 1 dJ4_min_1 rfl rfl ?_
  have J9 : AW l G mJ4_min d mc ms P 10 [(0, .int x0), (1, .int x1)] [.int (if x1 < x0 then x1 else x0)] h 0 0 := by
    exact aw_iret rfl dJ4_min_10 hv (Nat.zero_le _) (Nat.zero_le _)
  refine aw_icmp_gt 9 dJ4_min_2 (by decide) (fun c1 => ?_) (fun c1 => ?_)
  · have J9 := aw_ifT c1 J9
    refine aw_iload_n 1 dJ4_min_9 rfl rfl ?_
    exact J9
  · have J9 := aw_ifF c1 J9
    refine aw_iload_n 0 dJ4_min_5 rfl rfl ?_
    refine aw_goto 10 dJ4_min_6 (by decide) ?_
    exact J9
def V_J3_newLength_0 (l : Launch) (G : aG) (d mc ms : Nat) (P : aR → aH → Prop) (x0 : Int32) (x1 : Int32) (x2 : Int32) (h : aH) : Prop :=
  vC l G mJ4_max (wsN mJ4_max) d mc ms [.int x1, .int x2] h 0 0 (xP P) (kI fun y1 h2 c3 s4 => 
  ((x0 + y1) ≤ (0 : Int32) → 
    False
    ) ∧ (¬ (x0 + y1) ≤ (0 : Int32) → 
    (2147483639 < (x0 + y1) → 
      False
      ) ∧ (¬ 2147483639 < (x0 + y1) → 
      P (.inl (some (.int (x0 + y1)))) h2
      )
    ))
set_option maxHeartbeats 4000000 in
theorem A_J3_newLength {l : Launch} {G : aG} {d mc ms : Nat} {P : aR → aH → Prop} {x0 : Int32} {x1 : Int32} {x2 : Int32} {h : aH} (hl : l.stackTraces = false) (hv : V_J3_newLength_0 l G d mc ms P x0 x1 x2 h) : aC l G mJ3_newLength (wsN mJ3_newLength) d mc ms [.int x0, .int x1, .int x2] h P := by
  refine aC_ofF (M := mJ3_newLength) rfl pJ3_newLength (Nat.le_of_ble_eq_true rfl) hl ?_
  refine aw_eqv (lv2 := [(0, .int x0), (1, .int x1), (2, .int x2)]) rfl rfl rfl rfl ?_
  unfold V_J3_newLength_0 at hv
  refine aw_iload_n 0 dJ3_newLength_0 rfl rfl ?_
  refine aw_iload_n 1 dJ3_newLength_1 rfl rfl ?_
  refine aw_iload_n 2 dJ3_newLength_2 rfl rfl ?_
  obtain ⟨d2, mc2, ms2, Q, hM, hd9, hc9, hs9, hv, hx⟩ := hv
  refine aw_callS (rest := [.int x0]) hM nJ4_max q248 q249 q128 q250 dJ3_newLength_3 rfl hd9 (by decide) (Nat.le_of_ble_eq_true rfl) hc9 hs9 ?_ ?_
  rotate_left
  · exact fun E h2 q => aX_out (hx E h2 q) rfl hc9 hs9
  intro v9 h2 hq
  have hv := hv v9 h2 hq
  obtain ⟨y1, rfl, hv⟩ := hv
  refine aw_eqv (pc2 := 6) (st2 := [.int y1, .int x0]) rfl rfl rfl rfl ?_
  revert hv hc9 hs9; generalize 0 + mc2 = c3; generalize 0 + ms2 = s4; intro hc9 hs9 hv
  refine aw_iadd dJ3_newLength_6 ?_
  refine aw_istore_n (lv' := [(3, .int (x0 + y1)), (0, .int x0), (1, .int x1), (2, .int x2)]) dJ3_newLength_7 rfl (Nat.le_of_ble_eq_true rfl) rfl ?_
  refine aw_iconst (v := 0) dJ3_newLength_8 (by decide) ?_
  refine aw_iload_n 0 dJ3_newLength_9 rfl rfl ?_
  refine aw_icmp_ge 21 dJ3_newLength_10 (by decide) (fun c5 => ?_) (fun c5 => ?_)
  · have hv := hv.1 c5
    refine aw_iload_n 1 dJ3_newLength_21 rfl rfl ?_
    refine aw_iload_n 2 dJ3_newLength_22 rfl rfl ?_
    exact hv.elim
  · have hv := hv.2 c5
    refine aw_iload_n 0 dJ3_newLength_13 rfl rfl ?_
    refine aw_ldc (v := 2147483639) q251 dJ3_newLength_14 ?_
    refine aw_icmp_gt 21 dJ3_newLength_16 (by decide) (fun c6 => ?_) (fun c6 => ?_)
    · have hv := hv.1 c6
      refine aw_iload_n 1 dJ3_newLength_21 rfl rfl ?_
      refine aw_iload_n 2 dJ3_newLength_22 rfl rfl ?_
      exact hv.elim
    · have hv := hv.2 c6
      refine aw_iload_n 0 dJ3_newLength_19 rfl rfl ?_
      exact aw_iret rfl dJ3_newLength_20 hv hc9 hs9
def V_J5_copyOf_2_0 (l : Launch) (G : aG) (d mc ms : Nat) (P : aR → aH → Prop) (x0 : Nat) (x1 : Int32) (h : aH) : Prop :=
  vNewR "java/lang/Object" h x1 mc ms 0 0 fun a2 h3 c4 s5 => h a2 = none →
  vLenO G h3 x0 fun y7 =>
  vC l G mJ4_min (wsN mJ4_min) d mc ms [.int y7, .int x1] h3 c4 s5 (xP P) (kI fun y8 h9 c10 s11 => 
  1 ≤ d ∧ vCpyR h9 x0 (0 : Int32) a2 (0 : Int32) y8 fun h12 =>
  P (.inl (some (.ref a2))) h12)
set_option maxHeartbeats 4000000 in
theorem A_J5_copyOf_2 {l : Launch} {G : aG} {d mc ms : Nat} {P : aR → aH → Prop} {x0 : Nat} {x1 : Int32} {h : aH} (hl : l.stackTraces = false) (hv : V_J5_copyOf_2_0 l G d mc ms P x0 x1 h) : aC l G mJ5_copyOf_2 (wsN mJ5_copyOf_2) d mc ms [.ref x0, .int x1, .ref G.2.1.2.2.2] h P := by
  refine aC_ofF (M := mJ5_copyOf_2) rfl pJ5_copyOf_2 (Nat.le_of_ble_eq_true rfl) hl ?_
  refine aw_eqv (lv2 := [(0, .ref x0), (1, .int x1), (2, .ref G.2.1.2.2.2)]) rfl rfl rfl rfl ?_
  unfold V_J5_copyOf_2_0 at hv
  refine aw_aload_n 2 (x := G.2.1.2.2.2) dJ5_copyOf_2_0 rfl rfl ?_
  refine aw_ldcM q282 dJ5_copyOf_2_1 ?_
  refine aw_acmp_ne (rx := (some G.2.1.2.2.2)) (ry := (some G.2.1.2.2.2)) 13 dJ5_copyOf_2_3 (by decide) (fun c1 => absurd rfl c1) (fun c1 => ?_)
  refine aw_iload_n 1 dJ5_copyOf_2_6 rfl rfl ?_
  obtain ⟨N9, hn9, hN9, hb9, hc9, hs9, hv⟩ := hv
  refine aw_anew 5 rfl q284 q283 hn9 hN9 hb9 hc9 hs9 dJ5_copyOf_2_7 (fun a2 g6 => ?_)
  have hv := hv a2 g6 g6
  refine aw_eqv (pc2 := 10) (st2 := [.ref a2]) rfl rfl rfl rfl ?_
  revert hv hc9 hs9; generalize aUp h a2 (aRefs (.object "java/lang/Object") N9 (fun _ => none)) = h3; generalize 0 + 1 = c4; generalize 0 + N9 = s5; intro hc9 hs9 hv
  refine aw_goto 24 dJ5_copyOf_2_10 (by decide) ?_
  refine aw_astore_n (lv' := [(3, .ref a2), (0, .ref x0), (1, .int x1), (2, .ref G.2.1.2.2.2)]) dJ5_copyOf_2_24 rfl (Nat.le_of_ble_eq_true rfl) rfl ?_
  refine aw_aload_n 1 (x := x0) dJ5_copyOf_2_25 rfl rfl ?_
  refine aw_iconst (v := 0) dJ5_copyOf_2_26 (by decide) ?_
  refine aw_aload_n 0 (x := a2) dJ5_copyOf_2_27 rfl rfl ?_
  refine aw_iconst (v := 0) dJ5_copyOf_2_28 (by decide) ?_
  refine aw_aload_n 1 (x := x0) dJ5_copyOf_2_29 rfl rfl ?_
  refine aw_alenO hv dJ5_copyOf_2_30 (fun y7 hv => ?_)
  try dsimp only at hv
  refine aw_iload_n 2 dJ5_copyOf_2_31 rfl rfl ?_
  obtain ⟨d2, mc2, ms2, Q, hM, hd9, hc9, hs9, hv, hx⟩ := hv
  refine aw_callS (rest := [.int 0, .ref a2, .int 0, .ref x0]) hM nJ4_min q285 q286 q128 q287 dJ5_copyOf_2_32 rfl hd9 (by decide) (Nat.le_of_ble_eq_true rfl) hc9 hs9 ?_ ?_
  rotate_left
  · exact fun E h2 q => aX_out (hx E h2 q) rfl hc9 hs9
  intro v9 h9 hq
  have hv := hv v9 h9 hq
  obtain ⟨y8, rfl, hv⟩ := hv
  refine aw_eqv (pc2 := 35) (st2 := [.int y8, .int 0, .ref a2, .int 0, .ref x0]) rfl rfl rfl rfl ?_
  revert hv hc9 hs9; generalize c4 + mc2 = c10; generalize s5 + ms2 = s11; intro hc9 hs9 hv
  obtain ⟨hd9, n0, n1, f9, g9, he0, he1, w1, w2, w3, w4, w5, hel, hv⟩ := hv
  refine aw_copyR 5 rfl q288 q222 q221 q126 he0 he1 w1 w2 w3 w4 w5 (fun s9 A9 H9 k9 r9 i9 hi9 y9 hy9 => aOb_any (hel i9 hi9 y9 hy9) s9 A9 H9 k9 r9) hd9 (Nat.le_of_ble_eq_true rfl) rfl dJ5_copyOf_2_35 ?_
  revert hv; generalize aUp h9 a2 (aRefs (.object "java/lang/Object") n1 (va_cpy f9 g9 ((0 : Int32)).toNatClampNeg ((0 : Int32)).toNatClampNeg (y8).toNatClampNeg)) = h12; intro hv
  refine aw_aload_n 0 (x := a2) dJ5_copyOf_2_38 rfl rfl ?_
  exact aw_aret rfl (Or.inr ⟨_, rfl⟩) (Or.inr ⟨_, rfl⟩) dJ5_copyOf_2_39 hv hc9 hs9
def V_J5_copyOf_0 (l : Launch) (G : aG) (d mc ms : Nat) (P : aR → aH → Prop) (x0 : Nat) (x1 : Int32) (h : aH) : Prop :=
  1 ≤ d ∧ (∃ n f, h x0 = some (aRefs (.object "java/lang/Object") n f)) ∧
  vC l G mJ5_copyOf_2 (wsN mJ5_copyOf_2) d mc ms [.ref x0, .int x1, .ref G.2.1.2.2.2] h 0 0 (xP P) (kR fun a1 h2 c3 s4 => 
  P (.inl (some (.ref a1))) h2)
set_option maxHeartbeats 4000000 in
theorem A_J5_copyOf {l : Launch} {G : aG} {d mc ms : Nat} {P : aR → aH → Prop} {x0 : Nat} {x1 : Int32} {h : aH} (hl : l.stackTraces = false) (hv : V_J5_copyOf_0 l G d mc ms P x0 x1 h) : aC l G mJ5_copyOf (wsN mJ5_copyOf) d mc ms [.ref x0, .int x1] h P := by
  refine aC_ofF (M := mJ5_copyOf) rfl pJ5_copyOf (Nat.le_of_ble_eq_true rfl) hl ?_
  refine aw_eqv (lv2 := [(0, .ref x0), (1, .int x1)]) rfl rfl rfl rfl ?_
  unfold V_J5_copyOf_0 at hv
  refine aw_aload_n 0 (x := x0) dJ5_copyOf_0 rfl rfl ?_
  refine aw_iload_n 1 dJ5_copyOf_1 rfl rfl ?_
  refine aw_aload_n 0 (x := x0) dJ5_copyOf_2 rfl rfl ?_
  obtain ⟨hd9, ⟨n9, f9, he⟩, hv⟩ := hv
  refine aw_getC q258 q2333 q2332 q259 q278 he hd9 (Nat.le_of_ble_eq_true rfl) dJ5_copyOf_3 ?_
  obtain ⟨d2, mc2, ms2, Q, hM, hd9, hc9, hs9, hv, hx⟩ := hv
  refine aw_callS (rest := []) hM nJ5_copyOf_2 q279 q280 q129 q281 dJ5_copyOf_6 rfl hd9 (by decide) (Nat.le_of_ble_eq_true rfl) hc9 hs9 ?_ ?_
  rotate_left
  · exact fun E h2 q => aX_out (hx E h2 q) rfl hc9 hs9
  intro v9 h2 hq
  have hv := hv v9 h2 hq
  obtain ⟨a1, rfl, hv⟩ := hv
  refine aw_eqv (pc2 := 9) (st2 := [.ref a1]) rfl rfl rfl rfl ?_
  revert hv hc9 hs9; generalize 0 + mc2 = c3; generalize 0 + ms2 = s4; intro hc9 hs9 hv
  exact aw_aret rfl (Or.inr ⟨_, rfl⟩) (Or.inr ⟨_, rfl⟩) dJ5_copyOf_9 hv hc9 hs9
def T_J2_grow_2_20 (l : Launch) (G : aG) (d mc ms : Nat) (P : aR → aH → Prop) (x0 : Nat) (x1 : Int32) (x2 : Int32) (h : aH) (c s : Nat) : Prop := c ≤ mc → s ≤ ms → AW l G mJ2_grow_2 d mc ms P 20 [(0, .ref x0), (1, .int x1), (2, .int x2)] [] h c s
def V_J2_grow_2_20 (l : Launch) (G : aG) (d mc ms : Nat) (P : aR → aH → Prop) (x0 : Nat) (x1 : Int32) (x2 : Int32) (h : aH) (c s : Nat) : Prop :=
  vC l G mJ3_newLength (wsN mJ3_newLength) d mc ms [.int x2, .int (x1 - x2), .int (x2 >>> ((1 : Int32) &&& 31))] h c s (xP P) (kI fun y1 h2 c3 s4 => 
  vR h2 x0 9 1 fun a5 =>
  vC l G mJ5_copyOf (wsN mJ5_copyOf) d mc ms [.ref a5, .int y1] h2 c3 s4 (xP P) (kR fun a6 h7 c8 s9 => 
  vPut h7 x0 9 1 (.ref a6) fun h10 =>
  P (.inl (some (.ref a6))) h10))
set_option maxHeartbeats 4000000 in
theorem A_J2_grow_2_20 {l : Launch} {G : aG} {d mc ms : Nat} {P : aR → aH → Prop} {x0 : Nat} {x1 : Int32} {x2 : Int32} {h : aH} {c s : Nat} (hl : l.stackTraces = false) (hv : V_J2_grow_2_20 l G d mc ms P x0 x1 x2 h c s) : T_J2_grow_2_20 l G d mc ms P x0 x1 x2 h c s := by
  intro hc hs
  unfold V_J2_grow_2_20 at hv
  refine aw_iload_n 2 dJ2_grow_2_20 rfl rfl ?_
  refine aw_iload_n 1 dJ2_grow_2_21 rfl rfl ?_
  refine aw_iload_n 2 dJ2_grow_2_22 rfl rfl ?_
  refine aw_isub dJ2_grow_2_23 ?_
  refine aw_iload_n 2 dJ2_grow_2_24 rfl rfl ?_
  refine aw_iconst (v := 1) dJ2_grow_2_25 (by decide) ?_
  refine aw_ishr dJ2_grow_2_26 ?_
  obtain ⟨d2, mc2, ms2, Q, hM, hd9, hc9, hs9, hv, hx⟩ := hv
  refine aw_callS (rest := []) hM nJ3_newLength q245 q246 q127 q247 dJ2_grow_2_27 rfl hd9 (by decide) (Nat.le_of_ble_eq_true rfl) hc9 hs9 ?_ ?_
  rotate_left
  · exact fun E h2 q => aX_out (hx E h2 q) rfl hc9 hs9
  intro v9 h2 hq
  have hv := hv v9 h2 hq
  obtain ⟨y1, rfl, hv⟩ := hv
  refine aw_eqv (pc2 := 30) (st2 := [.int y1]) rfl rfl rfl rfl ?_
  revert hv hc9 hs9; generalize c + mc2 = c3; generalize s + ms2 = s4; intro hc9 hs9 hv
  refine aw_istore_n (lv' := [(3, .int y1), (0, .ref x0), (1, .int x1), (2, .int x2)]) dJ2_grow_2_30 rfl (Nat.le_of_ble_eq_true rfl) rfl ?_
  refine aw_aload_n 1 (x := x0) dJ2_grow_2_31 rfl rfl ?_
  refine aw_aload_n 1 (x := x0) dJ2_grow_2_32 rfl rfl ?_
  obtain ⟨fs, a5, he, hx, hv⟩ := hv
  refine aw_get (v := .ref a5) he rfl in_J2 1 (by decide) q203 (Or.inl rfl) hx dJ2_grow_2_33 ?_
  refine aw_iload_n 0 dJ2_grow_2_36 rfl rfl ?_
  obtain ⟨d2, mc2, ms2, Q, hM, hd9, hc9, hs9, hv, hx⟩ := hv
  refine aw_callS (rest := [.ref x0]) hM nJ5_copyOf q255 q256 q129 q257 dJ2_grow_2_37 rfl hd9 (by decide) (Nat.le_of_ble_eq_true rfl) hc9 hs9 ?_ ?_
  rotate_left
  · exact fun E h2 q => aX_out (hx E h2 q) rfl hc9 hs9
  intro v9 h7 hq
  have hv := hv v9 h7 hq
  obtain ⟨a6, rfl, hv⟩ := hv
  refine aw_eqv (pc2 := 40) (st2 := [.ref a6, .ref x0]) rfl rfl rfl rfl ?_
  revert hv hc9 hs9; generalize c3 + mc2 = c8; generalize s4 + ms2 = s9; intro hc9 hs9 hv
  refine aw_dup_x1 dJ2_grow_2_40 rfl rfl ?_
  obtain ⟨fs, he, hk9, hv⟩ := hv
  refine aw_put he rfl in_J2 tyJ2_ok nmJ2 1 (by decide) q203 (Or.inl rfl) rfl rfl rfl hk9 rfl dJ2_grow_2_41 ?_
  revert hv; generalize aUp h7 x0 (.inr (9, fs.set 1 (.ref a6))) = h10; intro hv
  exact aw_aret rfl (Or.inr ⟨_, rfl⟩) (Or.inr ⟨_, rfl⟩) dJ2_grow_2_44 hv hc9 hs9
def V_J2_grow_2_0 (l : Launch) (G : aG) (d mc ms : Nat) (P : aR → aH → Prop) (x0 : Nat) (x1 : Int32) (h : aH) : Prop :=
  vR h x0 9 1 fun a11 =>
  vLenO G h a11 fun y12 =>
  (0 < y12 → 
    T_J2_grow_2_20 l G d mc ms P x0 x1 y12 h 0 0
    ) ∧ (¬ 0 < y12 → 
    vR h x0 9 1 fun a14 =>
    ((some a14) = (some G.2.1.1) → 
      vC l G mJ4_max (wsN mJ4_max) d mc ms [.int 10, .int x1] h 0 0 (xP P) (kI fun y16 h17 c18 s19 => 
      vNewR "java/lang/Object" h17 y16 mc ms c18 s19 fun a20 h21 c22 s23 => h17 a20 = none →
      vPut h21 x0 9 1 (.ref a20) fun h25 =>
      P (.inl (some (.ref a20))) h25)
      ) ∧ (¬ (some a14) = (some G.2.1.1) → 
      T_J2_grow_2_20 l G d mc ms P x0 x1 y12 h 0 0
      )
    )
set_option maxHeartbeats 4000000 in
theorem A_J2_grow_2 {l : Launch} {G : aG} {d mc ms : Nat} {P : aR → aH → Prop} {x0 : Nat} {x1 : Int32} {h : aH} (hl : l.stackTraces = false) (hv : V_J2_grow_2_0 l G d mc ms P x0 x1 h) : aC l G mJ2_grow_2 (wsN mJ2_grow_2) d mc ms [.ref x0, .int x1] h P := by
  refine aC_ofF (M := mJ2_grow_2) rfl pJ2_grow_2 (Nat.le_of_ble_eq_true rfl) hl ?_
  refine aw_eqv (lv2 := [(0, .ref x0), (1, .int x1)]) rfl rfl rfl rfl ?_
  unfold V_J2_grow_2_0 at hv
  refine aw_aload_n 0 (x := x0) dJ2_grow_2_0 rfl rfl ?_
  obtain ⟨fs, a11, he, hx, hv⟩ := hv
  refine aw_get (v := .ref a11) he rfl in_J2 1 (by decide) q203 (Or.inl rfl) hx dJ2_grow_2_1 ?_
  refine aw_alenO hv dJ2_grow_2_4 (fun y12 hv => ?_)
  try dsimp only at hv
  refine aw_istore_n (lv' := [(2, .int y12), (0, .ref x0), (1, .int x1)]) dJ2_grow_2_5 rfl (Nat.le_of_ble_eq_true rfl) rfl ?_
  refine aw_iload_n 0 dJ2_grow_2_6 rfl rfl ?_
  refine aw_if_gt 20 dJ2_grow_2_7 (by decide) (fun c13 => ?_) (fun c13 => ?_)
  · have hv := hv.1 c13
    refine aw_sub [1, 2, 0] rfl ?_
    exact hv (Nat.zero_le _) (Nat.zero_le _)
  · have hv := hv.2 c13
    refine aw_aload_n 1 (x := x0) dJ2_grow_2_10 rfl rfl ?_
    obtain ⟨fs, a14, he, hx, hv⟩ := hv
    refine aw_get (v := .ref a14) he rfl in_J2 1 (by decide) q203 (Or.inl rfl) hx dJ2_grow_2_11 ?_
    refine aw_getsE q201 dJ2_grow_2_14 ?_
    refine aw_acmp_eq (rx := (some a14)) (ry := (some G.2.1.1)) 45 dJ2_grow_2_17 (by decide) (fun c15 => ?_) (fun c15 => ?_)
    · have hv := hv.1 c15
      refine aw_aload_n 1 (x := x0) dJ2_grow_2_45 rfl rfl ?_
      refine aw_bipush (v := 10) dJ2_grow_2_46 (by decide) ?_
      refine aw_iload_n 2 dJ2_grow_2_48 rfl rfl ?_
      obtain ⟨d2, mc2, ms2, Q, hM, hd9, hc9, hs9, hv, hx⟩ := hv
      refine aw_callS (rest := [.ref x0]) hM nJ4_max q289 q249 q128 q250 dJ2_grow_2_49 rfl hd9 (by decide) (Nat.le_of_ble_eq_true rfl) hc9 hs9 ?_ ?_
      rotate_left
      · exact fun E h2 q => aX_out (hx E h2 q) rfl hc9 hs9
      intro v9 h17 hq
      have hv := hv v9 h17 hq
      obtain ⟨y16, rfl, hv⟩ := hv
      refine aw_eqv (pc2 := 52) (st2 := [.int y16, .ref x0]) rfl rfl rfl rfl ?_
      revert hv hc9 hs9; generalize 0 + mc2 = c18; generalize 0 + ms2 = s19; intro hc9 hs9 hv
      obtain ⟨N9, hn9, hN9, hb9, hc9, hs9, hv⟩ := hv
      refine aw_anew 5 rfl q290 q283 hn9 hN9 hb9 hc9 hs9 dJ2_grow_2_52 (fun a20 g24 => ?_)
      have hv := hv a20 g24 g24
      refine aw_eqv (pc2 := 55) (st2 := [.ref a20, .ref x0]) rfl rfl rfl rfl ?_
      revert hv hc9 hs9; generalize aUp h17 a20 (aRefs (.object "java/lang/Object") N9 (fun _ => none)) = h21; generalize c18 + 1 = c22; generalize s19 + N9 = s23; intro hc9 hs9 hv
      refine aw_dup_x1 dJ2_grow_2_55 rfl rfl ?_
      obtain ⟨fs, he, hk9, hv⟩ := hv
      refine aw_put he rfl in_J2 tyJ2_ok nmJ2 1 (by decide) q203 (Or.inl rfl) rfl rfl rfl hk9 rfl dJ2_grow_2_56 ?_
      revert hv; generalize aUp h21 x0 (.inr (9, fs.set 1 (.ref a20))) = h25; intro hv
      exact aw_aret rfl (Or.inr ⟨_, rfl⟩) (Or.inr ⟨_, rfl⟩) dJ2_grow_2_59 hv hc9 hs9
    · have hv := hv.2 c15
      refine aw_sub [1, 2, 0] rfl ?_
      exact hv (Nat.zero_le _) (Nat.zero_le _)
def V_J2_grow_0 (l : Launch) (G : aG) (d mc ms : Nat) (P : aR → aH → Prop) (x0 : Nat) (h : aH) : Prop :=
  vI h x0 9 2 fun y1 =>
  vIs h x0 9 (
  vC l G mJ2_grow_2 (wsN mJ2_grow_2) d mc ms [.ref x0, .int (y1 + (1 : Int32))] h 0 0 (xP P) (kR fun a2 h3 c4 s5 => 
  P (.inl (some (.ref a2))) h3))
set_option maxHeartbeats 4000000 in
theorem A_J2_grow {l : Launch} {G : aG} {d mc ms : Nat} {P : aR → aH → Prop} {x0 : Nat} {h : aH} (hl : l.stackTraces = false) (hv : V_J2_grow_0 l G d mc ms P x0 h) : aC l G mJ2_grow (wsN mJ2_grow) d mc ms [.ref x0] h P := by
  refine aC_ofF (M := mJ2_grow) rfl pJ2_grow (Nat.le_of_ble_eq_true rfl) hl ?_
  refine aw_eqv (lv2 := [(0, .ref x0)]) rfl rfl rfl rfl ?_
  unfold V_J2_grow_0 at hv
  refine aw_aload_n 0 (x := x0) dJ2_grow_0 rfl rfl ?_
  refine aw_aload_n 0 (x := x0) dJ2_grow_1 rfl rfl ?_
  obtain ⟨fs, y1, he, hx, hv⟩ := hv
  refine aw_get (v := .int y1) he rfl in_J2 2 (by decide) q204 (Or.inl rfl) hx dJ2_grow_2 ?_
  refine aw_iconst (v := 1) dJ2_grow_5 (by decide) ?_
  refine aw_iadd dJ2_grow_6 ?_
  obtain ⟨⟨fs, he⟩, hv⟩ := hv
  obtain ⟨d2, mc2, ms2, Q, hM, hd9, hc9, hs9, hv, hx⟩ := hv
  refine aw_callV (rest := []) hM he rfl rfl nJ2_grow_2 q241 q243 qs4 q125 q244 dJ2_grow_7 rfl hd9 (by decide) (Nat.le_of_ble_eq_true rfl) hc9 hs9 ?_ ?_
  rotate_left
  · exact fun E h2 q => aX_out (hx E h2 q) rfl hc9 hs9
  intro v9 h3 hq
  have hv := hv v9 h3 hq
  obtain ⟨a2, rfl, hv⟩ := hv
  refine aw_eqv (pc2 := 10) (st2 := [.ref a2]) rfl rfl rfl rfl ?_
  revert hv hc9 hs9; generalize 0 + mc2 = c4; generalize 0 + ms2 = s5; intro hc9 hs9 hv
  exact aw_aret rfl (Or.inr ⟨_, rfl⟩) (Or.inr ⟨_, rfl⟩) dJ2_grow_10 hv hc9 hs9
def V_J2_add_2_0 (l : Launch) (G : aG) (d mc ms : Nat) (P : aR → aH → Prop) (x0 : Nat) (x1 : Nat) (x2 : Nat) (x3 : Int32) (h : aH) : Prop :=
  vLenO G h x2 fun y1 =>
  (¬ x3 = y1 → 
    vStO h x2 x3 x1 fun h3 =>
    vPut h3 x0 9 2 (.int (x3 + (1 : Int32))) fun h4 =>
    P (.inl none) h4
    ) ∧ (x3 = y1 → 
    vIs h x0 9 (
    vC l G mJ2_grow (wsN mJ2_grow) d mc ms [.ref x0] h 0 0 (xP P) (kR fun a5 h6 c7 s8 => 
    vStO h6 a5 x3 x1 fun h9 =>
    vPut h9 x0 9 2 (.int (x3 + (1 : Int32))) fun h10 =>
    P (.inl none) h10))
    )
set_option maxHeartbeats 4000000 in
theorem A_J2_add_2 {l : Launch} {G : aG} {d mc ms : Nat} {P : aR → aH → Prop} {x0 : Nat} {x1 : Nat} {x2 : Nat} {x3 : Int32} {h : aH} (hl : l.stackTraces = false) (hv : V_J2_add_2_0 l G d mc ms P x0 x1 x2 x3 h) : aC l G mJ2_add_2 (wsN mJ2_add_2) d mc ms [.ref x0, .ref x1, .ref x2, .int x3] h P := by
  refine aC_ofF (M := mJ2_add_2) rfl pJ2_add_2 (Nat.le_of_ble_eq_true rfl) hl ?_
  refine aw_eqv (lv2 := [(0, .ref x0), (1, .ref x1), (2, .ref x2), (3, .int x3)]) rfl rfl rfl rfl ?_
  unfold V_J2_add_2_0 at hv
  refine aw_iload_n 3 dJ2_add_2_0 rfl rfl ?_
  refine aw_aload_n 2 (x := x2) dJ2_add_2_1 rfl rfl ?_
  refine aw_alenO hv dJ2_add_2_2 (fun y1 hv => ?_)
  try dsimp only at hv
  refine aw_icmp_ne 11 dJ2_add_2_3 (by decide) (fun c2 => ?_) (fun c2 => ?_)
  · have hv := hv.1 c2
    refine aw_aload_n 2 (x := x2) dJ2_add_2_11 rfl rfl ?_
    refine aw_iload_n 3 dJ2_add_2_12 rfl rfl ?_
    refine aw_aload_n 1 (x := x1) dJ2_add_2_13 rfl rfl ?_
    obtain ⟨n9, f9, he, hin, hz, hv⟩ := hv
    refine aw_aast 5 rfl he hin (aOb_any hz) rfl dJ2_add_2_14 ?_
    revert hv; generalize aUp h x2 (aRefs (.object "java/lang/Object") n9 (va_up f9 (x3).toNatClampNeg (some x1))) = h3; intro hv
    refine aw_aload_n 0 (x := x0) dJ2_add_2_15 rfl rfl ?_
    refine aw_iload_n 3 dJ2_add_2_16 rfl rfl ?_
    refine aw_iconst (v := 1) dJ2_add_2_17 (by decide) ?_
    refine aw_iadd dJ2_add_2_18 ?_
    obtain ⟨fs, he, hk9, hv⟩ := hv
    refine aw_put he rfl in_J2 tyJ2_ok nmJ2 2 (by decide) q204 (Or.inl rfl) rfl rfl rfl hk9 rfl dJ2_add_2_19 ?_
    revert hv; generalize aUp h3 x0 (.inr (9, fs.set 2 (.int (x3 + (1 : Int32))))) = h4; intro hv
    exact aw_vret rfl dJ2_add_2_22 hv (Nat.zero_le _) (Nat.zero_le _)
  · have hv := hv.2 c2
    refine aw_aload_n 0 (x := x0) dJ2_add_2_6 rfl rfl ?_
    obtain ⟨⟨fs, he⟩, hv⟩ := hv
    obtain ⟨d2, mc2, ms2, Q, hM, hd9, hc9, hs9, hv, hx⟩ := hv
    refine aw_callV (rest := []) hM he rfl rfl nJ2_grow q237 q239 qs3 q125 q240 dJ2_add_2_7 rfl hd9 (by decide) (Nat.le_of_ble_eq_true rfl) hc9 hs9 ?_ ?_
    rotate_left
    · exact fun E h2 q => aX_out (hx E h2 q) rfl hc9 hs9
    intro v9 h6 hq
    have hv := hv v9 h6 hq
    obtain ⟨a5, rfl, hv⟩ := hv
    refine aw_eqv (pc2 := 10) (st2 := [.ref a5]) rfl rfl rfl rfl ?_
    revert hv hc9 hs9; generalize 0 + mc2 = c7; generalize 0 + ms2 = s8; intro hc9 hs9 hv
    refine aw_astore_n (lv' := [(2, .ref a5), (0, .ref x0), (1, .ref x1), (3, .int x3)]) dJ2_add_2_10 rfl (Nat.le_of_ble_eq_true rfl) rfl ?_
    refine aw_aload_n 0 (x := a5) dJ2_add_2_11 rfl rfl ?_
    refine aw_iload_n 3 dJ2_add_2_12 rfl rfl ?_
    refine aw_aload_n 2 (x := x1) dJ2_add_2_13 rfl rfl ?_
    obtain ⟨n9, f9, he, hin, hz, hv⟩ := hv
    refine aw_aast 5 rfl he hin (aOb_any hz) rfl dJ2_add_2_14 ?_
    revert hv; generalize aUp h6 a5 (aRefs (.object "java/lang/Object") n9 (va_up f9 (x3).toNatClampNeg (some x1))) = h9; intro hv
    refine aw_aload_n 1 (x := x0) dJ2_add_2_15 rfl rfl ?_
    refine aw_iload_n 3 dJ2_add_2_16 rfl rfl ?_
    refine aw_iconst (v := 1) dJ2_add_2_17 (by decide) ?_
    refine aw_iadd dJ2_add_2_18 ?_
    obtain ⟨fs, he, hk9, hv⟩ := hv
    refine aw_put he rfl in_J2 tyJ2_ok nmJ2 2 (by decide) q204 (Or.inl rfl) rfl rfl rfl hk9 rfl dJ2_add_2_19 ?_
    revert hv; generalize aUp h9 x0 (.inr (9, fs.set 2 (.int (x3 + (1 : Int32))))) = h10; intro hv
    exact aw_vret rfl dJ2_add_2_22 hv hc9 hs9
def V_J2_add_0 (l : Launch) (G : aG) (d mc ms : Nat) (P : aR → aH → Prop) (x0 : Nat) (x1 : Nat) (h : aH) : Prop :=
  vI h x0 9 0 fun y1 =>
  vPut h x0 9 0 (.int (y1 + (1 : Int32))) fun h2 =>
  vR h2 x0 9 1 fun a3 =>
  vI h2 x0 9 2 fun y4 =>
  vIs h2 x0 9 (
  vC l G mJ2_add_2 (wsN mJ2_add_2) d mc ms [.ref x0, .ref x1, .ref a3, .int y4] h2 0 0 (xP P) (kV fun h6 c7 s8 => 
  P (.inl (some (.int 1))) h6))
set_option maxHeartbeats 4000000 in
theorem A_J2_add {l : Launch} {G : aG} {d mc ms : Nat} {P : aR → aH → Prop} {x0 : Nat} {x1 : Nat} {h : aH} (hl : l.stackTraces = false) (hv : V_J2_add_0 l G d mc ms P x0 x1 h) : aC l G mJ2_add (wsN mJ2_add) d mc ms [.ref x0, .ref x1] h P := by
  refine aC_ofF (M := mJ2_add) rfl pJ2_add (Nat.le_of_ble_eq_true rfl) hl ?_
  refine aw_eqv (lv2 := [(0, .ref x0), (1, .ref x1)]) rfl rfl rfl rfl ?_
  unfold V_J2_add_0 at hv
  refine aw_aload_n 0 (x := x0) dJ2_add_0 rfl rfl ?_
  refine aw_dup dJ2_add_1 rfl ?_
  obtain ⟨fs, y1, he, hx, hv⟩ := hv
  refine aw_get (v := .int y1) he rfl in_J2 0 (by decide) q206 (Or.inr q207) hx dJ2_add_2 ?_
  refine aw_iconst (v := 1) dJ2_add_5 (by decide) ?_
  refine aw_iadd dJ2_add_6 ?_
  obtain ⟨fs, he, hk9, hv⟩ := hv
  refine aw_put he rfl in_J2 tyJ2_ok nmJ2 0 (by decide) q206 (Or.inr q207) rfl rfl rfl hk9 rfl dJ2_add_7 ?_
  revert hv; generalize aUp h x0 (.inr (9, fs.set 0 (.int (y1 + (1 : Int32))))) = h2; intro hv
  refine aw_aload_n 0 (x := x0) dJ2_add_10 rfl rfl ?_
  refine aw_aload_n 1 (x := x1) dJ2_add_11 rfl rfl ?_
  refine aw_aload_n 0 (x := x0) dJ2_add_12 rfl rfl ?_
  obtain ⟨fs, a3, he, hx, hv⟩ := hv
  refine aw_get (v := .ref a3) he rfl in_J2 1 (by decide) q203 (Or.inl rfl) hx dJ2_add_13 ?_
  refine aw_aload_n 0 (x := x0) dJ2_add_16 rfl rfl ?_
  obtain ⟨fs, y4, he, hx, hv⟩ := hv
  refine aw_get (v := .int y4) he rfl in_J2 2 (by decide) q204 (Or.inl rfl) hx dJ2_add_17 ?_
  obtain ⟨⟨fs, he⟩, hv⟩ := hv
  obtain ⟨d2, mc2, ms2, Q, hM, hd9, hc9, hs9, hv, hx⟩ := hv
  refine aw_callV (rest := []) hM he rfl rfl nJ2_add_2 q233 q235 qs2 q125 q236 dJ2_add_20 rfl hd9 (by decide) (Nat.le_of_ble_eq_true rfl) hc9 hs9 ?_ ?_
  rotate_left
  · exact fun E h2 q => aX_out (hx E h2 q) rfl hc9 hs9
  intro v9 h6 hq
  have hv := hv v9 h6 hq
  obtain ⟨rfl, hv⟩ := hv
  refine aw_eqv (pc2 := 23) (st2 := []) rfl rfl rfl rfl ?_
  revert hv hc9 hs9; generalize 0 + mc2 = c7; generalize 0 + ms2 = s8; intro hc9 hs9 hv
  refine aw_iconst (v := 1) dJ2_add_23 (by decide) ?_
  exact aw_zret rfl rfl dJ2_add_24 hv hc9 hs9
def V_J2_size_0 (l : Launch) (G : aG) (d mc ms : Nat) (P : aR → aH → Prop) (x0 : Nat) (h : aH) : Prop :=
  vI h x0 9 2 fun y1 =>
  P (.inl (some (.int y1))) h
set_option maxHeartbeats 4000000 in
theorem A_J2_size {l : Launch} {G : aG} {d mc ms : Nat} {P : aR → aH → Prop} {x0 : Nat} {h : aH} (hl : l.stackTraces = false) (hv : V_J2_size_0 l G d mc ms P x0 h) : aC l G mJ2_size (wsN mJ2_size) d mc ms [.ref x0] h P := by
  refine aC_ofF (M := mJ2_size) rfl pJ2_size (Nat.le_of_ble_eq_true rfl) hl ?_
  refine aw_eqv (lv2 := [(0, .ref x0)]) rfl rfl rfl rfl ?_
  unfold V_J2_size_0 at hv
  refine aw_aload_n 0 (x := x0) dJ2_size_0 rfl rfl ?_
  obtain ⟨fs, y1, he, hx, hv⟩ := hv
  refine aw_get (v := .int y1) he rfl in_J2 2 (by decide) q204 (Or.inl rfl) hx dJ2_size_1 ?_
  exact aw_iret rfl dJ2_size_4 hv (Nat.zero_le _) (Nat.zero_le _)
def V_J2_isEmpty_0 (l : Launch) (G : aG) (d mc ms : Nat) (P : aR → aH → Prop) (x0 : Nat) (h : aH) : Prop :=
  vI h x0 9 2 fun y1 =>
  vB (if y1 = 0 then (1 : Int32) else 0) ∧ P (.inl (some (.int (if y1 = 0 then (1 : Int32) else 0)))) h
set_option maxHeartbeats 4000000 in
theorem A_J2_isEmpty {l : Launch} {G : aG} {d mc ms : Nat} {P : aR → aH → Prop} {x0 : Nat} {h : aH} (hl : l.stackTraces = false) (hv : V_J2_isEmpty_0 l G d mc ms P x0 h) : aC l G mJ2_isEmpty (wsN mJ2_isEmpty) d mc ms [.ref x0] h P := by
  refine aC_ofF (M := mJ2_isEmpty) rfl pJ2_isEmpty (Nat.le_of_ble_eq_true rfl) hl ?_
  refine aw_eqv (lv2 := [(0, .ref x0)]) rfl rfl rfl rfl ?_
  unfold V_J2_isEmpty_0 at hv
  refine aw_aload_n 0 (x := x0) dJ2_isEmpty_0 rfl rfl ?_
  obtain ⟨fs, y1, he, hx, hv⟩ := hv
  refine aw_get (v := .int y1) he rfl in_J2 2 (by decide) q204 (Or.inl rfl) hx dJ2_isEmpty_1 ?_
  have J9 : AW l G mJ2_isEmpty d mc ms P 12 [(0, .ref x0)] [.int (if y1 = 0 then (1 : Int32) else 0)] h 0 0 := by
    obtain ⟨z3, hv⟩ := hv
    exact aw_zret rfl z3.nar dJ2_isEmpty_12 hv (Nat.zero_le _) (Nat.zero_le _)
  refine aw_if_ne 11 dJ2_isEmpty_4 (by decide) (fun c2 => ?_) (fun c2 => ?_)
  · have J9 := aw_ifF c2 J9
    refine aw_iconst (v := 0) dJ2_isEmpty_11 (by decide) ?_
    exact J9
  · have J9 := aw_ifT c2 J9
    refine aw_iconst (v := 1) dJ2_isEmpty_7 (by decide) ?_
    refine aw_goto 12 dJ2_isEmpty_8 (by decide) ?_
    exact J9
def V_J16_checkIndex_0 (l : Launch) (G : aG) (d mc ms : Nat) (P : aR → aH → Prop) (x0 : Int32) (x1 : Int32) (x2 : Option Nat) (h : aH) : Prop :=
  (x0 < 0 → 
    False
    ) ∧ (¬ x0 < 0 → 
    (x0 < x1 → 
      P (.inl (some (.int x0))) h
      ) ∧ (¬ x0 < x1 → 
      False
      )
    )
set_option maxHeartbeats 4000000 in
theorem A_J16_checkIndex {l : Launch} {G : aG} {d mc ms : Nat} {P : aR → aH → Prop} {x0 : Int32} {x1 : Int32} {x2 : Option Nat} {h : aH} (hl : l.stackTraces = false) (hv : V_J16_checkIndex_0 l G d mc ms P x0 x1 x2 h) : aC l G mJ16_checkIndex (wsN mJ16_checkIndex) d mc ms [.int x0, .int x1, va_rf x2] h P := by
  refine aC_ofF (M := mJ16_checkIndex) rfl pJ16_checkIndex (by cases x2 <;> exact Nat.le_of_ble_eq_true rfl) hl ?_
  refine aw_eqv (lv2 := [(0, .int x0), (1, .int x1), (2, va_rf x2)]) rfl rfl rfl rfl ?_
  unfold V_J16_checkIndex_0 at hv
  refine aw_iload_n 0 dJ16_checkIndex_0 rfl rfl ?_
  refine aw_if_lt 9 dJ16_checkIndex_1 (by decide) (fun c1 => ?_) (fun c1 => ?_)
  · have hv := hv.1 c1
    refine aw_aloadr_n 2 (x := x2) dJ16_checkIndex_9 rfl rfl ?_
    refine aw_iload_n 0 dJ16_checkIndex_10 rfl rfl ?_
    refine aw_iload_n 1 dJ16_checkIndex_11 rfl rfl ?_
    exact hv.elim
  · have hv := hv.2 c1
    refine aw_iload_n 0 dJ16_checkIndex_4 rfl rfl ?_
    refine aw_iload_n 1 dJ16_checkIndex_5 rfl rfl ?_
    refine aw_icmp_lt 16 dJ16_checkIndex_6 (by decide) (fun c2 => ?_) (fun c2 => ?_)
    · have hv := hv.1 c2
      refine aw_iload_n 0 dJ16_checkIndex_16 rfl rfl ?_
      exact aw_iret rfl dJ16_checkIndex_17 hv (Nat.zero_le _) (Nat.zero_le _)
    · have hv := hv.2 c2
      refine aw_aloadr_n 2 (x := x2) dJ16_checkIndex_9 rfl rfl ?_
      refine aw_iload_n 0 dJ16_checkIndex_10 rfl rfl ?_
      refine aw_iload_n 1 dJ16_checkIndex_11 rfl rfl ?_
      exact hv.elim
def V_J15_checkIndex_0 (l : Launch) (G : aG) (d mc ms : Nat) (P : aR → aH → Prop) (x0 : Int32) (x1 : Int32) (h : aH) : Prop :=
  vC l G mJ16_checkIndex (wsN mJ16_checkIndex) d mc ms [.int x0, .int x1, .null] h 0 0 (xP P) (kI fun y1 h2 c3 s4 => 
  P (.inl (some (.int y1))) h2)
set_option maxHeartbeats 4000000 in
theorem A_J15_checkIndex {l : Launch} {G : aG} {d mc ms : Nat} {P : aR → aH → Prop} {x0 : Int32} {x1 : Int32} {h : aH} (hl : l.stackTraces = false) (hv : V_J15_checkIndex_0 l G d mc ms P x0 x1 h) : aC l G mJ15_checkIndex (wsN mJ15_checkIndex) d mc ms [.int x0, .int x1] h P := by
  refine aC_ofF (M := mJ15_checkIndex) rfl pJ15_checkIndex (Nat.le_of_ble_eq_true rfl) hl ?_
  refine aw_eqv (lv2 := [(0, .int x0), (1, .int x1)]) rfl rfl rfl rfl ?_
  unfold V_J15_checkIndex_0 at hv
  refine aw_iload_n 0 dJ15_checkIndex_0 rfl rfl ?_
  refine aw_iload_n 1 dJ15_checkIndex_1 rfl rfl ?_
  refine aw_null dJ15_checkIndex_2 ?_
  obtain ⟨d2, mc2, ms2, Q, hM, hd9, hc9, hs9, hv, hx⟩ := hv
  refine aw_callS (rest := []) hM nJ16_checkIndex q489 q490 q143 q491 dJ15_checkIndex_3 rfl hd9 (by decide) (Nat.le_of_ble_eq_true rfl) hc9 hs9 ?_ ?_
  rotate_left
  · exact fun E h2 q => aX_out (hx E h2 q) rfl hc9 hs9
  intro v9 h2 hq
  have hv := hv v9 h2 hq
  obtain ⟨y1, rfl, hv⟩ := hv
  refine aw_eqv (pc2 := 6) (st2 := [.int y1]) rfl rfl rfl rfl ?_
  revert hv hc9 hs9; generalize 0 + mc2 = c3; generalize 0 + ms2 = s4; intro hc9 hs9 hv
  exact aw_iret rfl dJ15_checkIndex_6 hv hc9 hs9
def V_J2_elementData_0 (l : Launch) (G : aG) (d mc ms : Nat) (P : aR → aH → Prop) (x0 : Nat) (x1 : Int32) (h : aH) : Prop :=
  vR h x0 9 1 fun a1 =>
  vAR (.object "java/lang/Object") h a1 x1 fun a2 =>
  P (.inl (some (.ref a2))) h
set_option maxHeartbeats 4000000 in
theorem A_J2_elementData {l : Launch} {G : aG} {d mc ms : Nat} {P : aR → aH → Prop} {x0 : Nat} {x1 : Int32} {h : aH} (hl : l.stackTraces = false) (hv : V_J2_elementData_0 l G d mc ms P x0 x1 h) : aC l G mJ2_elementData (wsN mJ2_elementData) d mc ms [.ref x0, .int x1] h P := by
  refine aC_ofF (M := mJ2_elementData) rfl pJ2_elementData (Nat.le_of_ble_eq_true rfl) hl ?_
  refine aw_eqv (lv2 := [(0, .ref x0), (1, .int x1)]) rfl rfl rfl rfl ?_
  unfold V_J2_elementData_0 at hv
  refine aw_aload_n 0 (x := x0) dJ2_elementData_0 rfl rfl ?_
  obtain ⟨fs, a1, he, hx, hv⟩ := hv
  refine aw_get (v := .ref a1) he rfl in_J2 1 (by decide) q203 (Or.inl rfl) hx dJ2_elementData_1 ?_
  refine aw_iload_n 1 dJ2_elementData_4 rfl rfl ?_
  obtain ⟨n9, f9, a2, he, hin, hx, hv⟩ := hv
  refine aw_aald 5 rfl rfl he hin dJ2_elementData_5 ?_
  rw [hx]
  refine aw_eqv (st2 := [.ref a2]) rfl rfl rfl rfl ?_
  exact aw_aret rfl (Or.inl ⟨_, rfl⟩) (Or.inr ⟨_, rfl⟩) dJ2_elementData_6 hv (Nat.zero_le _) (Nat.zero_le _)
def V_J2_get_0 (l : Launch) (G : aG) (d mc ms : Nat) (P : aR → aH → Prop) (x0 : Nat) (x1 : Int32) (h : aH) : Prop :=
  vI h x0 9 2 fun y1 =>
  vC l G mJ15_checkIndex (wsN mJ15_checkIndex) d mc ms [.int x1, .int y1] h 0 0 (xP P) (kI fun y2 h3 c4 s5 => 
  vIs h3 x0 9 (
  vC l G mJ2_elementData (wsN mJ2_elementData) d mc ms [.ref x0, .int x1] h3 c4 s5 (xP P) (kR fun a6 h7 c8 s9 => 
  P (.inl (some (.ref a6))) h7)))
set_option maxHeartbeats 4000000 in
theorem A_J2_get {l : Launch} {G : aG} {d mc ms : Nat} {P : aR → aH → Prop} {x0 : Nat} {x1 : Int32} {h : aH} (hl : l.stackTraces = false) (hv : V_J2_get_0 l G d mc ms P x0 x1 h) : aC l G mJ2_get (wsN mJ2_get) d mc ms [.ref x0, .int x1] h P := by
  refine aC_ofF (M := mJ2_get) rfl pJ2_get (Nat.le_of_ble_eq_true rfl) hl ?_
  refine aw_eqv (lv2 := [(0, .ref x0), (1, .int x1)]) rfl rfl rfl rfl ?_
  unfold V_J2_get_0 at hv
  refine aw_iload_n 1 dJ2_get_0 rfl rfl ?_
  refine aw_aload_n 0 (x := x0) dJ2_get_1 rfl rfl ?_
  obtain ⟨fs, y1, he, hx, hv⟩ := hv
  refine aw_get (v := .int y1) he rfl in_J2 2 (by decide) q204 (Or.inl rfl) hx dJ2_get_2 ?_
  obtain ⟨d2, mc2, ms2, Q, hM, hd9, hc9, hs9, hv, hx⟩ := hv
  refine aw_callS (rest := []) hM nJ15_checkIndex q486 q487 q142 q488 dJ2_get_5 rfl hd9 (by decide) (Nat.le_of_ble_eq_true rfl) hc9 hs9 ?_ ?_
  rotate_left
  · exact fun E h2 q => aX_out (hx E h2 q) rfl hc9 hs9
  intro v9 h3 hq
  have hv := hv v9 h3 hq
  obtain ⟨y2, rfl, hv⟩ := hv
  refine aw_eqv (pc2 := 8) (st2 := [.int y2]) rfl rfl rfl rfl ?_
  revert hv hc9 hs9; generalize 0 + mc2 = c4; generalize 0 + ms2 = s5; intro hc9 hs9 hv
  refine aw_pop dJ2_get_8 rfl ?_
  refine aw_aload_n 0 (x := x0) dJ2_get_9 rfl rfl ?_
  refine aw_iload_n 1 dJ2_get_10 rfl rfl ?_
  obtain ⟨⟨fs, he⟩, hv⟩ := hv
  obtain ⟨d2, mc2, ms2, Q, hM, hd9, hc9, hs9, hv, hx⟩ := hv
  refine aw_callV (rest := []) hM he rfl rfl nJ2_elementData q646 q647 q648 q125 q649 dJ2_get_11 rfl hd9 (by decide) (Nat.le_of_ble_eq_true rfl) hc9 hs9 ?_ ?_
  rotate_left
  · exact fun E h2 q => aX_out (hx E h2 q) rfl hc9 hs9
  intro v9 h7 hq
  have hv := hv v9 h7 hq
  obtain ⟨a6, rfl, hv⟩ := hv
  refine aw_eqv (pc2 := 14) (st2 := [.ref a6]) rfl rfl rfl rfl ?_
  revert hv hc9 hs9; generalize c4 + mc2 = c8; generalize s5 + ms2 = s9; intro hc9 hs9 hv
  exact aw_aret rfl (Or.inl ⟨_, rfl⟩) (Or.inr ⟨_, rfl⟩) dJ2_get_14 hv hc9 hs9
def V_J2_fastRemove_0 (l : Launch) (G : aG) (d mc ms : Nat) (P : aR → aH → Prop) (x0 : Nat) (x1 : Nat) (x2 : Int32) (h : aH) : Prop :=
  vI h x0 9 0 fun y1 =>
  vPut h x0 9 0 (.int (y1 + (1 : Int32))) fun h2 =>
  vI h2 x0 9 2 fun y3 =>
  ((y3 - (1 : Int32)) ≤ x2 → 
    vPut h2 x0 9 2 (.int (y3 - (1 : Int32))) fun h5 =>
    vStN h5 x1 (y3 - (1 : Int32)) fun h6 =>
    P (.inl none) h6
    ) ∧ (¬ (y3 - (1 : Int32)) ≤ x2 → 
    1 ≤ d ∧ vCpyR h2 x1 (x2 + (1 : Int32)) x1 x2 ((y3 - (1 : Int32)) - x2) fun h7 =>
    vPut h7 x0 9 2 (.int (y3 - (1 : Int32))) fun h8 =>
    vStN h8 x1 (y3 - (1 : Int32)) fun h9 =>
    P (.inl none) h9
    )
set_option maxHeartbeats 4000000 in
theorem A_J2_fastRemove {l : Launch} {G : aG} {d mc ms : Nat} {P : aR → aH → Prop} {x0 : Nat} {x1 : Nat} {x2 : Int32} {h : aH} (hl : l.stackTraces = false) (hv : V_J2_fastRemove_0 l G d mc ms P x0 x1 x2 h) : aC l G mJ2_fastRemove (wsN mJ2_fastRemove) d mc ms [.ref x0, .ref x1, .int x2] h P := by
  refine aC_ofF (M := mJ2_fastRemove) rfl pJ2_fastRemove (Nat.le_of_ble_eq_true rfl) hl ?_
  refine aw_eqv (lv2 := [(0, .ref x0), (1, .ref x1), (2, .int x2)]) rfl rfl rfl rfl ?_
  unfold V_J2_fastRemove_0 at hv
  refine aw_aload_n 0 (x := x0) dJ2_fastRemove_0 rfl rfl ?_
  refine aw_dup dJ2_fastRemove_1 rfl ?_
  obtain ⟨fs, y1, he, hx, hv⟩ := hv
  refine aw_get (v := .int y1) he rfl in_J2 0 (by decide) q206 (Or.inr q207) hx dJ2_fastRemove_2 ?_
  refine aw_iconst (v := 1) dJ2_fastRemove_5 (by decide) ?_
  refine aw_iadd dJ2_fastRemove_6 ?_
  obtain ⟨fs, he, hk9, hv⟩ := hv
  refine aw_put he rfl in_J2 tyJ2_ok nmJ2 0 (by decide) q206 (Or.inr q207) rfl rfl rfl hk9 rfl dJ2_fastRemove_7 ?_
  revert hv; generalize aUp h x0 (.inr (9, fs.set 0 (.int (y1 + (1 : Int32))))) = h2; intro hv
  refine aw_aload_n 0 (x := x0) dJ2_fastRemove_10 rfl rfl ?_
  obtain ⟨fs, y3, he, hx, hv⟩ := hv
  refine aw_get (v := .int y3) he rfl in_J2 2 (by decide) q204 (Or.inl rfl) hx dJ2_fastRemove_11 ?_
  refine aw_iconst (v := 1) dJ2_fastRemove_14 (by decide) ?_
  refine aw_isub dJ2_fastRemove_15 ?_
  refine aw_dup dJ2_fastRemove_16 rfl ?_
  refine aw_istore_n (lv' := [(3, .int (y3 - (1 : Int32))), (0, .ref x0), (1, .ref x1), (2, .int x2)]) dJ2_fastRemove_17 rfl (Nat.le_of_ble_eq_true rfl) rfl ?_
  refine aw_iload_n 3 dJ2_fastRemove_18 rfl rfl ?_
  refine aw_icmp_le 34 dJ2_fastRemove_19 (by decide) (fun c4 => ?_) (fun c4 => ?_)
  · have hv := hv.1 c4
    refine aw_aload_n 2 (x := x1) dJ2_fastRemove_34 rfl rfl ?_
    refine aw_aload_n 1 (x := x0) dJ2_fastRemove_35 rfl rfl ?_
    refine aw_iload_n 0 dJ2_fastRemove_36 rfl rfl ?_
    refine aw_dup_x1 dJ2_fastRemove_37 rfl rfl ?_
    obtain ⟨fs, he, hk9, hv⟩ := hv
    refine aw_put he rfl in_J2 tyJ2_ok nmJ2 2 (by decide) q204 (Or.inl rfl) rfl rfl rfl hk9 rfl dJ2_fastRemove_38 ?_
    revert hv; generalize aUp h2 x0 (.inr (9, fs.set 2 (.int (y3 - (1 : Int32))))) = h5; intro hv
    refine aw_null dJ2_fastRemove_41 ?_
    obtain ⟨n9, f9, he, hin, hv⟩ := hv
    refine aw_aastN 5 rfl he hin rfl dJ2_fastRemove_42 ?_
    revert hv; generalize aUp h5 x1 (aRefs (.object "java/lang/Object") n9 (va_up f9 ((y3 - (1 : Int32))).toNatClampNeg none)) = h6; intro hv
    exact aw_vret rfl dJ2_fastRemove_43 hv (Nat.zero_le _) (Nat.zero_le _)
  · have hv := hv.2 c4
    refine aw_aload_n 2 (x := x1) dJ2_fastRemove_22 rfl rfl ?_
    refine aw_iload_n 3 dJ2_fastRemove_23 rfl rfl ?_
    refine aw_iconst (v := 1) dJ2_fastRemove_24 (by decide) ?_
    refine aw_iadd dJ2_fastRemove_25 ?_
    refine aw_aload_n 2 (x := x1) dJ2_fastRemove_26 rfl rfl ?_
    refine aw_iload_n 3 dJ2_fastRemove_27 rfl rfl ?_
    refine aw_iload_n 0 dJ2_fastRemove_28 rfl rfl ?_
    refine aw_iload_n 3 dJ2_fastRemove_29 rfl rfl ?_
    refine aw_isub dJ2_fastRemove_30 ?_
    obtain ⟨hd9, n0, n1, f9, g9, he0, he1, w1, w2, w3, w4, w5, hel, hv⟩ := hv
    refine aw_copyR 5 rfl q496 q222 q221 q126 he0 he1 w1 w2 w3 w4 w5 (fun s9 A9 H9 k9 r9 i9 hi9 y9 hy9 => aOb_any (hel i9 hi9 y9 hy9) s9 A9 H9 k9 r9) hd9 (Nat.le_of_ble_eq_true rfl) rfl dJ2_fastRemove_31 ?_
    revert hv; generalize aUp h2 x1 (aRefs (.object "java/lang/Object") n1 (va_cpy f9 g9 ((x2 + (1 : Int32))).toNatClampNeg (x2).toNatClampNeg (((y3 - (1 : Int32)) - x2)).toNatClampNeg)) = h7; intro hv
    refine aw_aload_n 2 (x := x1) dJ2_fastRemove_34 rfl rfl ?_
    refine aw_aload_n 1 (x := x0) dJ2_fastRemove_35 rfl rfl ?_
    refine aw_iload_n 0 dJ2_fastRemove_36 rfl rfl ?_
    refine aw_dup_x1 dJ2_fastRemove_37 rfl rfl ?_
    obtain ⟨fs, he, hk9, hv⟩ := hv
    refine aw_put he rfl in_J2 tyJ2_ok nmJ2 2 (by decide) q204 (Or.inl rfl) rfl rfl rfl hk9 rfl dJ2_fastRemove_38 ?_
    revert hv; generalize aUp h7 x0 (.inr (9, fs.set 2 (.int (y3 - (1 : Int32))))) = h8; intro hv
    refine aw_null dJ2_fastRemove_41 ?_
    obtain ⟨n9, f9, he, hin, hv⟩ := hv
    refine aw_aastN 5 rfl he hin rfl dJ2_fastRemove_42 ?_
    revert hv; generalize aUp h8 x1 (aRefs (.object "java/lang/Object") n9 (va_up f9 ((y3 - (1 : Int32))).toNatClampNeg none)) = h9; intro hv
    exact aw_vret rfl dJ2_fastRemove_43 hv (Nat.zero_le _) (Nat.zero_le _)
def V_J2_remove_0 (l : Launch) (G : aG) (d mc ms : Nat) (P : aR → aH → Prop) (x0 : Nat) (x1 : Int32) (h : aH) : Prop :=
  vI h x0 9 2 fun y1 =>
  vC l G mJ15_checkIndex (wsN mJ15_checkIndex) d mc ms [.int x1, .int y1] h 0 0 (xP P) (kI fun y2 h3 c4 s5 => 
  vR h3 x0 9 1 fun a6 =>
  vAR (.object "java/lang/Object") h3 a6 x1 fun a7 =>
  vIs h3 x0 9 (
  vC l G mJ2_fastRemove (wsN mJ2_fastRemove) d mc ms [.ref x0, .ref a6, .int x1] h3 c4 s5 (xP P) (kV fun h9 c10 s11 => 
  P (.inl (some (.ref a7))) h9)))
set_option maxHeartbeats 4000000 in
theorem A_J2_remove {l : Launch} {G : aG} {d mc ms : Nat} {P : aR → aH → Prop} {x0 : Nat} {x1 : Int32} {h : aH} (hl : l.stackTraces = false) (hv : V_J2_remove_0 l G d mc ms P x0 x1 h) : aC l G mJ2_remove (wsN mJ2_remove) d mc ms [.ref x0, .int x1] h P := by
  refine aC_ofF (M := mJ2_remove) rfl pJ2_remove (Nat.le_of_ble_eq_true rfl) hl ?_
  refine aw_eqv (lv2 := [(0, .ref x0), (1, .int x1)]) rfl rfl rfl rfl ?_
  unfold V_J2_remove_0 at hv
  refine aw_iload_n 1 dJ2_remove_0 rfl rfl ?_
  refine aw_aload_n 0 (x := x0) dJ2_remove_1 rfl rfl ?_
  obtain ⟨fs, y1, he, hx, hv⟩ := hv
  refine aw_get (v := .int y1) he rfl in_J2 2 (by decide) q204 (Or.inl rfl) hx dJ2_remove_2 ?_
  obtain ⟨d2, mc2, ms2, Q, hM, hd9, hc9, hs9, hv, hx⟩ := hv
  refine aw_callS (rest := []) hM nJ15_checkIndex q486 q487 q142 q488 dJ2_remove_5 rfl hd9 (by decide) (Nat.le_of_ble_eq_true rfl) hc9 hs9 ?_ ?_
  rotate_left
  · exact fun E h2 q => aX_out (hx E h2 q) rfl hc9 hs9
  intro v9 h3 hq
  have hv := hv v9 h3 hq
  obtain ⟨y2, rfl, hv⟩ := hv
  refine aw_eqv (pc2 := 8) (st2 := [.int y2]) rfl rfl rfl rfl ?_
  revert hv hc9 hs9; generalize 0 + mc2 = c4; generalize 0 + ms2 = s5; intro hc9 hs9 hv
  refine aw_pop dJ2_remove_8 rfl ?_
  refine aw_aload_n 0 (x := x0) dJ2_remove_9 rfl rfl ?_
  obtain ⟨fs, a6, he, hx, hv⟩ := hv
  refine aw_get (v := .ref a6) he rfl in_J2 1 (by decide) q203 (Or.inl rfl) hx dJ2_remove_10 ?_
  refine aw_astore_n (lv' := [(2, .ref a6), (0, .ref x0), (1, .int x1)]) dJ2_remove_13 rfl (Nat.le_of_ble_eq_true rfl) rfl ?_
  refine aw_aload_n 0 (x := a6) dJ2_remove_14 rfl rfl ?_
  refine aw_iload_n 2 dJ2_remove_15 rfl rfl ?_
  obtain ⟨n9, f9, a7, he, hin, hx, hv⟩ := hv
  refine aw_aald 5 rfl rfl he hin dJ2_remove_16 ?_
  rw [hx]
  refine aw_eqv (st2 := [.ref a7]) rfl rfl rfl rfl ?_
  refine aw_astore_n (lv' := [(3, .ref a7), (2, .ref a6), (0, .ref x0), (1, .int x1)]) dJ2_remove_17 rfl (Nat.le_of_ble_eq_true rfl) rfl ?_
  refine aw_aload_n 2 (x := x0) dJ2_remove_18 rfl rfl ?_
  refine aw_aload_n 1 (x := a6) dJ2_remove_19 rfl rfl ?_
  refine aw_iload_n 3 dJ2_remove_20 rfl rfl ?_
  obtain ⟨⟨fs, he⟩, hv⟩ := hv
  obtain ⟨d2, mc2, ms2, Q, hM, hd9, hc9, hs9, hv, hx⟩ := hv
  refine aw_callV (rest := []) hM he rfl rfl nJ2_fastRemove q492 q494 qs7 q125 q495 dJ2_remove_21 rfl hd9 (by decide) (Nat.le_of_ble_eq_true rfl) hc9 hs9 ?_ ?_
  rotate_left
  · exact fun E h2 q => aX_out (hx E h2 q) rfl hc9 hs9
  intro v9 h9 hq
  have hv := hv v9 h9 hq
  obtain ⟨rfl, hv⟩ := hv
  refine aw_eqv (pc2 := 24) (st2 := []) rfl rfl rfl rfl ?_
  revert hv hc9 hs9; generalize c4 + mc2 = c10; generalize s5 + ms2 = s11; intro hc9 hs9 hv
  refine aw_aload_n 0 (x := a7) dJ2_remove_24 rfl rfl ?_
  exact aw_aret rfl (Or.inl ⟨_, rfl⟩) (Or.inr ⟨_, rfl⟩) dJ2_remove_25 hv hc9 hs9
def V_J6_bitCount_0 (l : Launch) (G : aG) (d mc ms : Nat) (P : aR → aH → Prop) (x0 : Int32) (h : aH) : Prop :=
  ∀ v1 : Int32, v1 = (x0 - (((x0.toUInt32 >>> ((1 : Int32).toUInt32 &&& Int32.toUInt32 31)).toInt32) &&& (1431655765 : Int32))) →
  ∀ v2 : Int32, v2 = ((v1 &&& (858993459 : Int32)) + (((v1.toUInt32 >>> ((2 : Int32).toUInt32 &&& Int32.toUInt32 31)).toInt32) &&& (858993459 : Int32))) →
  ∀ v3 : Int32, v3 = ((v2 + ((v2.toUInt32 >>> ((4 : Int32).toUInt32 &&& Int32.toUInt32 31)).toInt32)) &&& (252645135 : Int32)) →
  ∀ v4 : Int32, v4 = (v3 + ((v3.toUInt32 >>> ((8 : Int32).toUInt32 &&& Int32.toUInt32 31)).toInt32)) →
  ∀ v5 : Int32, v5 = (v4 + ((v4.toUInt32 >>> ((16 : Int32).toUInt32 &&& Int32.toUInt32 31)).toInt32)) →
  P (.inl (some (.int (v5 &&& (63 : Int32))))) h
set_option maxHeartbeats 4000000 in
theorem A_J6_bitCount {l : Launch} {G : aG} {d mc ms : Nat} {P : aR → aH → Prop} {x0 : Int32} {h : aH} (hl : l.stackTraces = false) (hv : V_J6_bitCount_0 l G d mc ms P x0 h) : aC l G mJ6_bitCount (wsN mJ6_bitCount) d mc ms [.int x0] h P := by
  refine aC_ofF (M := mJ6_bitCount) rfl pJ6_bitCount (Nat.le_of_ble_eq_true rfl) hl ?_
  refine aw_eqv (lv2 := [(0, .int x0)]) rfl rfl rfl rfl ?_
  unfold V_J6_bitCount_0 at hv
  refine aw_iload_n 0 dJ6_bitCount_0 rfl rfl ?_
  refine aw_iload_n 0 dJ6_bitCount_1 rfl rfl ?_
  refine aw_iconst (v := 1) dJ6_bitCount_2 (by decide) ?_
  refine aw_iushr dJ6_bitCount_3 ?_
  refine aw_ldcw (v := 1431655765) q294 dJ6_bitCount_4 ?_
  refine aw_iand dJ6_bitCount_7 ?_
  refine aw_isub dJ6_bitCount_8 ?_
  refine aw_topi (fun v1 ev1 => ?_)
  have hv := hv v1 ev1
  refine aw_istore_n (lv' := [(0, .int v1)]) dJ6_bitCount_9 rfl (Nat.le_of_ble_eq_true rfl) rfl ?_
  refine aw_iload_n 0 dJ6_bitCount_10 rfl rfl ?_
  refine aw_ldcw (v := 858993459) q295 dJ6_bitCount_11 ?_
  refine aw_iand dJ6_bitCount_14 ?_
  refine aw_iload_n 0 dJ6_bitCount_15 rfl rfl ?_
  refine aw_iconst (v := 2) dJ6_bitCount_16 (by decide) ?_
  refine aw_iushr dJ6_bitCount_17 ?_
  refine aw_ldcw (v := 858993459) q295 dJ6_bitCount_18 ?_
  refine aw_iand dJ6_bitCount_21 ?_
  refine aw_iadd dJ6_bitCount_22 ?_
  refine aw_topi (fun v2 ev2 => ?_)
  have hv := hv v2 ev2
  refine aw_istore_n (lv' := [(0, .int v2)]) dJ6_bitCount_23 rfl (Nat.le_of_ble_eq_true rfl) rfl ?_
  refine aw_iload_n 0 dJ6_bitCount_24 rfl rfl ?_
  refine aw_iload_n 0 dJ6_bitCount_25 rfl rfl ?_
  refine aw_iconst (v := 4) dJ6_bitCount_26 (by decide) ?_
  refine aw_iushr dJ6_bitCount_27 ?_
  refine aw_iadd dJ6_bitCount_28 ?_
  refine aw_ldcw (v := 252645135) q296 dJ6_bitCount_29 ?_
  refine aw_iand dJ6_bitCount_32 ?_
  refine aw_topi (fun v3 ev3 => ?_)
  have hv := hv v3 ev3
  refine aw_istore_n (lv' := [(0, .int v3)]) dJ6_bitCount_33 rfl (Nat.le_of_ble_eq_true rfl) rfl ?_
  refine aw_iload_n 0 dJ6_bitCount_34 rfl rfl ?_
  refine aw_iload_n 0 dJ6_bitCount_35 rfl rfl ?_
  refine aw_bipush (v := 8) dJ6_bitCount_36 (by decide) ?_
  refine aw_iushr dJ6_bitCount_38 ?_
  refine aw_iadd dJ6_bitCount_39 ?_
  refine aw_topi (fun v4 ev4 => ?_)
  have hv := hv v4 ev4
  refine aw_istore_n (lv' := [(0, .int v4)]) dJ6_bitCount_40 rfl (Nat.le_of_ble_eq_true rfl) rfl ?_
  refine aw_iload_n 0 dJ6_bitCount_41 rfl rfl ?_
  refine aw_iload_n 0 dJ6_bitCount_42 rfl rfl ?_
  refine aw_bipush (v := 16) dJ6_bitCount_43 (by decide) ?_
  refine aw_iushr dJ6_bitCount_45 ?_
  refine aw_iadd dJ6_bitCount_46 ?_
  refine aw_topi (fun v5 ev5 => ?_)
  have hv := hv v5 ev5
  refine aw_istore_n (lv' := [(0, .int v5)]) dJ6_bitCount_47 rfl (Nat.le_of_ble_eq_true rfl) rfl ?_
  refine aw_iload_n 0 dJ6_bitCount_48 rfl rfl ?_
  refine aw_bipush (v := 63) dJ6_bitCount_49 (by decide) ?_
  refine aw_iand dJ6_bitCount_51 ?_
  exact aw_iret rfl dJ6_bitCount_52 hv (Nat.zero_le _) (Nat.zero_le _)
def T_J6_numberOfTrailingZeros_34 (l : Launch) (G : aG) (d mc ms : Nat) (P : aR → aH → Prop) (x0 : Int32) (x1 : Int32) (h : aH) (c s : Nat) : Prop := c ≤ mc → s ≤ ms → AW l G mJ6_numberOfTrailingZeros d mc ms P 34 [(0, .int x0), (1, .int x1)] [] h c s
def T_J6_numberOfTrailingZeros_62 (l : Launch) (G : aG) (d mc ms : Nat) (P : aR → aH → Prop) (x0 : Int32) (x1 : Int32) (h : aH) (c s : Nat) : Prop := c ≤ mc → s ≤ ms → AW l G mJ6_numberOfTrailingZeros d mc ms P 62 [(0, .int x0), (1, .int x1)] [] h c s
def V_J6_numberOfTrailingZeros_34 (l : Launch) (G : aG) (d mc ms : Nat) (P : aR → aH → Prop) (x0 : Int32) (x1 : Int32) (h : aH) (c s : Nat) : Prop :=
  (x0 ≤ 256 → 
    (x0 ≤ 16 → 
      T_J6_numberOfTrailingZeros_62 l G d mc ms P x0 x1 h c s
      ) ∧ (¬ x0 ≤ 16 → 
      ∀ v3 : Int32, v3 = ((x0.toUInt32 >>> ((4 : Int32).toUInt32 &&& Int32.toUInt32 31)).toInt32) →
      T_J6_numberOfTrailingZeros_62 l G d mc ms P v3 (x1 + 4) h c s
      )
    ) ∧ (¬ x0 ≤ 256 → 
    ∀ v4 : Int32, v4 = ((x0.toUInt32 >>> ((8 : Int32).toUInt32 &&& Int32.toUInt32 31)).toInt32) →
    (v4 ≤ 16 → 
      T_J6_numberOfTrailingZeros_62 l G d mc ms P v4 (x1 + 8) h c s
      ) ∧ (¬ v4 ≤ 16 → 
      ∀ v6 : Int32, v6 = ((v4.toUInt32 >>> ((4 : Int32).toUInt32 &&& Int32.toUInt32 31)).toInt32) →
      T_J6_numberOfTrailingZeros_62 l G d mc ms P v6 ((x1 + 8) + 4) h c s
      )
    )
set_option maxHeartbeats 4000000 in
theorem A_J6_numberOfTrailingZeros_34 {l : Launch} {G : aG} {d mc ms : Nat} {P : aR → aH → Prop} {x0 : Int32} {x1 : Int32} {h : aH} {c s : Nat} (hl : l.stackTraces = false) (hv : V_J6_numberOfTrailingZeros_34 l G d mc ms P x0 x1 h c s) : T_J6_numberOfTrailingZeros_34 l G d mc ms P x0 x1 h c s := by
  intro hc hs
  unfold V_J6_numberOfTrailingZeros_34 at hv
  refine aw_iload_n 0 dJ6_numberOfTrailingZeros_34 rfl rfl ?_
  refine aw_sipush (v := 256) dJ6_numberOfTrailingZeros_35 (by decide) ?_
  refine aw_icmp_le 49 dJ6_numberOfTrailingZeros_38 (by decide) (fun c1 => ?_) (fun c1 => ?_)
  · have hv := hv.1 c1
    refine aw_iload_n 0 dJ6_numberOfTrailingZeros_49 rfl rfl ?_
    refine aw_bipush (v := 16) dJ6_numberOfTrailingZeros_50 (by decide) ?_
    refine aw_icmp_le 62 dJ6_numberOfTrailingZeros_52 (by decide) (fun c2 => ?_) (fun c2 => ?_)
    · have hv := hv.1 c2
      exact hv hc hs
    · have hv := hv.2 c2
      refine aw_iinc 1 (v := x1 + 4) (lv' := [(1, .int (x1 + 4)), (0, .int x0)]) dJ6_numberOfTrailingZeros_55 rfl rfl (Nat.le_of_ble_eq_true rfl) rfl ?_
      refine aw_iload_n 1 dJ6_numberOfTrailingZeros_58 rfl rfl ?_
      refine aw_iconst (v := 4) dJ6_numberOfTrailingZeros_59 (by decide) ?_
      refine aw_iushr dJ6_numberOfTrailingZeros_60 ?_
      refine aw_topi (fun v3 ev3 => ?_)
      have hv := hv v3 ev3
      refine aw_istore_n (lv' := [(0, .int v3), (1, .int (x1 + 4))]) dJ6_numberOfTrailingZeros_61 rfl (Nat.le_of_ble_eq_true rfl) rfl ?_
      exact hv hc hs
  · have hv := hv.2 c1
    refine aw_iinc 1 (v := x1 + 8) (lv' := [(1, .int (x1 + 8)), (0, .int x0)]) dJ6_numberOfTrailingZeros_41 rfl rfl (Nat.le_of_ble_eq_true rfl) rfl ?_
    refine aw_iload_n 1 dJ6_numberOfTrailingZeros_44 rfl rfl ?_
    refine aw_bipush (v := 8) dJ6_numberOfTrailingZeros_45 (by decide) ?_
    refine aw_iushr dJ6_numberOfTrailingZeros_47 ?_
    refine aw_topi (fun v4 ev4 => ?_)
    have hv := hv v4 ev4
    refine aw_istore_n (lv' := [(0, .int v4), (1, .int (x1 + 8))]) dJ6_numberOfTrailingZeros_48 rfl (Nat.le_of_ble_eq_true rfl) rfl ?_
    refine aw_iload_n 0 dJ6_numberOfTrailingZeros_49 rfl rfl ?_
    refine aw_bipush (v := 16) dJ6_numberOfTrailingZeros_50 (by decide) ?_
    refine aw_icmp_le 62 dJ6_numberOfTrailingZeros_52 (by decide) (fun c5 => ?_) (fun c5 => ?_)
    · have hv := hv.1 c5
      exact hv hc hs
    · have hv := hv.2 c5
      refine aw_iinc 1 (v := (x1 + 8) + 4) (lv' := [(1, .int ((x1 + 8) + 4)), (0, .int v4)]) dJ6_numberOfTrailingZeros_55 rfl rfl (Nat.le_of_ble_eq_true rfl) rfl ?_
      refine aw_iload_n 1 dJ6_numberOfTrailingZeros_58 rfl rfl ?_
      refine aw_iconst (v := 4) dJ6_numberOfTrailingZeros_59 (by decide) ?_
      refine aw_iushr dJ6_numberOfTrailingZeros_60 ?_
      refine aw_topi (fun v6 ev6 => ?_)
      have hv := hv v6 ev6
      refine aw_istore_n (lv' := [(0, .int v6), (1, .int ((x1 + 8) + 4))]) dJ6_numberOfTrailingZeros_61 rfl (Nat.le_of_ble_eq_true rfl) rfl ?_
      exact hv hc hs
def V_J6_numberOfTrailingZeros_62 (l : Launch) (G : aG) (d mc ms : Nat) (P : aR → aH → Prop) (x0 : Int32) (x1 : Int32) (h : aH) (c s : Nat) : Prop :=
  (x0 ≤ 4 → 
    P (.inl (some (.int (x1 + ((x0.toUInt32 >>> ((1 : Int32).toUInt32 &&& Int32.toUInt32 31)).toInt32))))) h
    ) ∧ (¬ x0 ≤ 4 → 
    ∀ v8 : Int32, v8 = ((x0.toUInt32 >>> ((2 : Int32).toUInt32 &&& Int32.toUInt32 31)).toInt32) →
    P (.inl (some (.int ((x1 + 2) + ((v8.toUInt32 >>> ((1 : Int32).toUInt32 &&& Int32.toUInt32 31)).toInt32))))) h
    )
set_option maxHeartbeats 4000000 in
theorem A_J6_numberOfTrailingZeros_62 {l : Launch} {G : aG} {d mc ms : Nat} {P : aR → aH → Prop} {x0 : Int32} {x1 : Int32} {h : aH} {c s : Nat} (hl : l.stackTraces = false) (hv : V_J6_numberOfTrailingZeros_62 l G d mc ms P x0 x1 h c s) : T_J6_numberOfTrailingZeros_62 l G d mc ms P x0 x1 h c s := by
  intro hc hs
  unfold V_J6_numberOfTrailingZeros_62 at hv
  refine aw_iload_n 0 dJ6_numberOfTrailingZeros_62 rfl rfl ?_
  refine aw_iconst (v := 4) dJ6_numberOfTrailingZeros_63 (by decide) ?_
  refine aw_icmp_le 74 dJ6_numberOfTrailingZeros_64 (by decide) (fun c7 => ?_) (fun c7 => ?_)
  · have hv := hv.1 c7
    refine aw_iload_n 1 dJ6_numberOfTrailingZeros_74 rfl rfl ?_
    refine aw_iload_n 0 dJ6_numberOfTrailingZeros_75 rfl rfl ?_
    refine aw_iconst (v := 1) dJ6_numberOfTrailingZeros_76 (by decide) ?_
    refine aw_iushr dJ6_numberOfTrailingZeros_77 ?_
    refine aw_iadd dJ6_numberOfTrailingZeros_78 ?_
    exact aw_iret rfl dJ6_numberOfTrailingZeros_79 hv hc hs
  · have hv := hv.2 c7
    refine aw_iinc 1 (v := x1 + 2) (lv' := [(1, .int (x1 + 2)), (0, .int x0)]) dJ6_numberOfTrailingZeros_67 rfl rfl (Nat.le_of_ble_eq_true rfl) rfl ?_
    refine aw_iload_n 1 dJ6_numberOfTrailingZeros_70 rfl rfl ?_
    refine aw_iconst (v := 2) dJ6_numberOfTrailingZeros_71 (by decide) ?_
    refine aw_iushr dJ6_numberOfTrailingZeros_72 ?_
    refine aw_topi (fun v8 ev8 => ?_)
    have hv := hv v8 ev8
    refine aw_istore_n (lv' := [(0, .int v8), (1, .int (x1 + 2))]) dJ6_numberOfTrailingZeros_73 rfl (Nat.le_of_ble_eq_true rfl) rfl ?_
    refine aw_iload_n 1 dJ6_numberOfTrailingZeros_74 rfl rfl ?_
    refine aw_iload_n 0 dJ6_numberOfTrailingZeros_75 rfl rfl ?_
    refine aw_iconst (v := 1) dJ6_numberOfTrailingZeros_76 (by decide) ?_
    refine aw_iushr dJ6_numberOfTrailingZeros_77 ?_
    refine aw_iadd dJ6_numberOfTrailingZeros_78 ?_
    exact aw_iret rfl dJ6_numberOfTrailingZeros_79 hv hc hs
def V_J6_numberOfTrailingZeros_0 (l : Launch) (G : aG) (d mc ms : Nat) (P : aR → aH → Prop) (x0 : Int32) (h : aH) : Prop :=
  ∀ v9 : Int32, v9 = ((x0 ^^^ ((-1) : Int32)) &&& (x0 - (1 : Int32))) →
  (0 < v9 → 
    (v9 ≤ 65536 → 
      T_J6_numberOfTrailingZeros_34 l G d mc ms P v9 1 h 0 0
      ) ∧ (¬ v9 ≤ 65536 → 
      ∀ v12 : Int32, v12 = ((v9.toUInt32 >>> ((16 : Int32).toUInt32 &&& Int32.toUInt32 31)).toInt32) →
      T_J6_numberOfTrailingZeros_34 l G d mc ms P v12 17 h 0 0
      )
    ) ∧ (¬ 0 < v9 → 
    P (.inl (some (.int (v9 &&& (32 : Int32))))) h
    )
set_option maxHeartbeats 4000000 in
theorem A_J6_numberOfTrailingZeros {l : Launch} {G : aG} {d mc ms : Nat} {P : aR → aH → Prop} {x0 : Int32} {h : aH} (hl : l.stackTraces = false) (hv : V_J6_numberOfTrailingZeros_0 l G d mc ms P x0 h) : aC l G mJ6_numberOfTrailingZeros (wsN mJ6_numberOfTrailingZeros) d mc ms [.int x0] h P := by
  refine aC_ofF (M := mJ6_numberOfTrailingZeros) rfl pJ6_numberOfTrailingZeros (Nat.le_of_ble_eq_true rfl) hl ?_
  refine aw_eqv (lv2 := [(0, .int x0)]) rfl rfl rfl rfl ?_
  unfold V_J6_numberOfTrailingZeros_0 at hv
  refine aw_iload_n 0 dJ6_numberOfTrailingZeros_0 rfl rfl ?_
  refine aw_iconst (v := (-1)) dJ6_numberOfTrailingZeros_1 (by decide) ?_
  refine aw_ixor dJ6_numberOfTrailingZeros_2 ?_
  refine aw_iload_n 0 dJ6_numberOfTrailingZeros_3 rfl rfl ?_
  refine aw_iconst (v := 1) dJ6_numberOfTrailingZeros_4 (by decide) ?_
  refine aw_isub dJ6_numberOfTrailingZeros_5 ?_
  refine aw_iand dJ6_numberOfTrailingZeros_6 ?_
  refine aw_topi (fun v9 ev9 => ?_)
  have hv := hv v9 ev9
  refine aw_istore_n (lv' := [(0, .int v9)]) dJ6_numberOfTrailingZeros_7 rfl (Nat.le_of_ble_eq_true rfl) rfl ?_
  refine aw_iload_n 0 dJ6_numberOfTrailingZeros_8 rfl rfl ?_
  refine aw_if_gt 17 dJ6_numberOfTrailingZeros_9 (by decide) (fun c10 => ?_) (fun c10 => ?_)
  · have hv := hv.1 c10
    refine aw_iconst (v := 1) dJ6_numberOfTrailingZeros_17 (by decide) ?_
    refine aw_istore_n (lv' := [(1, .int 1), (0, .int v9)]) dJ6_numberOfTrailingZeros_18 rfl (Nat.le_of_ble_eq_true rfl) rfl ?_
    refine aw_iload_n 1 dJ6_numberOfTrailingZeros_19 rfl rfl ?_
    refine aw_ldcw (v := 65536) q545 dJ6_numberOfTrailingZeros_20 ?_
    refine aw_icmp_le 34 dJ6_numberOfTrailingZeros_23 (by decide) (fun c11 => ?_) (fun c11 => ?_)
    · have hv := hv.1 c11
      refine aw_sub [1, 0] rfl ?_
      exact hv (Nat.zero_le _) (Nat.zero_le _)
    · have hv := hv.2 c11
      refine aw_iinc 0 (v := 17) (lv' := [(1, .int 17), (0, .int v9)]) dJ6_numberOfTrailingZeros_26 rfl (by decide) (Nat.le_of_ble_eq_true rfl) rfl ?_
      refine aw_iload_n 1 dJ6_numberOfTrailingZeros_29 rfl rfl ?_
      refine aw_bipush (v := 16) dJ6_numberOfTrailingZeros_30 (by decide) ?_
      refine aw_iushr dJ6_numberOfTrailingZeros_32 ?_
      refine aw_topi (fun v12 ev12 => ?_)
      have hv := hv v12 ev12
      refine aw_istore_n (lv' := [(0, .int v12), (1, .int 17)]) dJ6_numberOfTrailingZeros_33 rfl (Nat.le_of_ble_eq_true rfl) rfl ?_
      exact hv (Nat.zero_le _) (Nat.zero_le _)
  · have hv := hv.2 c10
    refine aw_iload_n 0 dJ6_numberOfTrailingZeros_12 rfl rfl ?_
    refine aw_bipush (v := 32) dJ6_numberOfTrailingZeros_13 (by decide) ?_
    refine aw_iand dJ6_numberOfTrailingZeros_15 ?_
    exact aw_iret rfl dJ6_numberOfTrailingZeros_16 hv (Nat.zero_le _) (Nat.zero_le _)
def V_J6_lowestOneBit_0 (l : Launch) (G : aG) (d mc ms : Nat) (P : aR → aH → Prop) (x0 : Int32) (h : aH) : Prop :=
  P (.inl (some (.int (x0 &&& (-x0))))) h
set_option maxHeartbeats 4000000 in
theorem A_J6_lowestOneBit {l : Launch} {G : aG} {d mc ms : Nat} {P : aR → aH → Prop} {x0 : Int32} {h : aH} (hl : l.stackTraces = false) (hv : V_J6_lowestOneBit_0 l G d mc ms P x0 h) : aC l G mJ6_lowestOneBit (wsN mJ6_lowestOneBit) d mc ms [.int x0] h P := by
  refine aC_ofF (M := mJ6_lowestOneBit) rfl pJ6_lowestOneBit (Nat.le_of_ble_eq_true rfl) hl ?_
  refine aw_eqv (lv2 := [(0, .int x0)]) rfl rfl rfl rfl ?_
  unfold V_J6_lowestOneBit_0 at hv
  refine aw_iload_n 0 dJ6_lowestOneBit_0 rfl rfl ?_
  refine aw_iload_n 0 dJ6_lowestOneBit_1 rfl rfl ?_
  refine aw_ineg dJ6_lowestOneBit_2 ?_
  refine aw_iand dJ6_lowestOneBit_3 ?_
  exact aw_iret rfl dJ6_lowestOneBit_4 hv (Nat.zero_le _) (Nat.zero_le _)
def V_J5_copyOf_3_0 (l : Launch) (G : aG) (d mc ms : Nat) (P : aR → aH → Prop) (x0 : Nat) (x1 : Int32) (h : aH) : Prop :=
  vLen h x0 fun y1 =>
  (¬ x1 = y1 → 
    vNewA .byte h x1 mc ms 0 0 fun a3 h4 c5 s6 => h a3 = none →
    vLen h4 x0 fun y8 =>
    vC l G mJ4_min (wsN mJ4_min) d mc ms [.int y8, .int x1] h4 c5 s6 (xP P) (kI fun y9 h10 c11 s12 => 
    1 ≤ d ∧ vCpyI .byte h10 x0 (0 : Int32) a3 (0 : Int32) y9 fun h13 =>
    P (.inl (some (.ref a3))) h13)
    ) ∧ (x1 = y1 → 
    False
    )
set_option maxHeartbeats 4000000 in
theorem A_J5_copyOf_3 {l : Launch} {G : aG} {d mc ms : Nat} {P : aR → aH → Prop} {x0 : Nat} {x1 : Int32} {h : aH} (hl : l.stackTraces = false) (hv : V_J5_copyOf_3_0 l G d mc ms P x0 x1 h) : aC l G mJ5_copyOf_3 (wsN mJ5_copyOf_3) d mc ms [.ref x0, .int x1] h P := by
  refine aC_ofF (M := mJ5_copyOf_3) rfl pJ5_copyOf_3 (Nat.le_of_ble_eq_true rfl) hl ?_
  refine aw_eqv (lv2 := [(0, .ref x0), (1, .int x1)]) rfl rfl rfl rfl ?_
  unfold V_J5_copyOf_3_0 at hv
  refine aw_iload_n 1 dJ5_copyOf_3_0 rfl rfl ?_
  refine aw_aload_n 0 (x := x0) dJ5_copyOf_3_1 rfl rfl ?_
  obtain ⟨x9, j9, he, hj, hv⟩ := hv
  refine aw_alen j9 hj he dJ5_copyOf_3_2 ?_
  revert hv; generalize Int32.ofNat x9.2.1 = y1; intro hv
  refine aw_icmp_ne 14 dJ5_copyOf_3_3 (by decide) (fun c2 => ?_) (fun c2 => ?_)
  · have hv := hv.1 c2
    refine aw_iload_n 1 dJ5_copyOf_3_14 rfl rfl ?_
    obtain ⟨N9, hn9, hN9, hb9, hc9, hs9, hv⟩ := hv
    refine aw_newa (atype := .byte) (ty := .byte) (a0 := (N9, .inl fun _ => 0)) rfl 3 rfl q433 (fun _ => rfl) hn9 hN9 (by show _ * 1 ≤ _; omega) (fun _ _ h9 => h9) hc9 hs9 dJ5_copyOf_3_15 (fun a3 g7 => ?_)
    have hv := hv a3 g7 g7
    refine aw_eqv (pc2 := 17) (st2 := [.ref a3]) rfl rfl rfl rfl ?_
    revert hv hc9 hs9; generalize aUp h a3 (.inl (.byte, (N9, .inl fun _ => 0))) = h4; generalize 0 + 1 = c5; generalize 0 + N9 = s6; intro hc9 hs9 hv
    refine aw_astore_n (lv' := [(2, .ref a3), (0, .ref x0), (1, .int x1)]) dJ5_copyOf_3_17 rfl (Nat.le_of_ble_eq_true rfl) rfl ?_
    refine aw_aload_n 1 (x := x0) dJ5_copyOf_3_18 rfl rfl ?_
    refine aw_iconst (v := 0) dJ5_copyOf_3_19 (by decide) ?_
    refine aw_aload_n 0 (x := a3) dJ5_copyOf_3_20 rfl rfl ?_
    refine aw_iconst (v := 0) dJ5_copyOf_3_21 (by decide) ?_
    refine aw_aload_n 1 (x := x0) dJ5_copyOf_3_22 rfl rfl ?_
    obtain ⟨x9, j9, he, hj, hv⟩ := hv
    refine aw_alen j9 hj he dJ5_copyOf_3_23 ?_
    revert hv; generalize Int32.ofNat x9.2.1 = y8; intro hv
    refine aw_iload_n 2 dJ5_copyOf_3_24 rfl rfl ?_
    obtain ⟨d2, mc2, ms2, Q, hM, hd9, hc9, hs9, hv, hx⟩ := hv
    refine aw_callS (rest := [.int 0, .ref a3, .int 0, .ref x0]) hM nJ4_min q285 q286 q128 q287 dJ5_copyOf_3_25 rfl hd9 (by decide) (Nat.le_of_ble_eq_true rfl) hc9 hs9 ?_ ?_
    rotate_left
    · exact fun E h2 q => aX_out (hx E h2 q) rfl hc9 hs9
    intro v9 h10 hq
    have hv := hv v9 h10 hq
    obtain ⟨y9, rfl, hv⟩ := hv
    refine aw_eqv (pc2 := 28) (st2 := [.int y9, .int 0, .ref a3, .int 0, .ref x0]) rfl rfl rfl rfl ?_
    revert hv hc9 hs9; generalize c5 + mc2 = c11; generalize s6 + ms2 = s12; intro hc9 hs9 hv
    obtain ⟨hd9, n0, n1, f9, g9, he0, he1, w1, w2, w3, w4, w5, hfit, hv⟩ := hv
    refine aw_copyI 3 rfl rfl q288 q222 q221 q126 he0 he1 w1 w2 w3 w4 w5 hfit hd9 (Nat.le_of_ble_eq_true rfl) rfl dJ5_copyOf_3_28 ?_
    revert hv; generalize aUp h10 a3 (aInts .byte n1 (va_cpy f9 g9 ((0 : Int32)).toNatClampNeg ((0 : Int32)).toNatClampNeg (y9).toNatClampNeg)) = h13; intro hv
    refine aw_aload_n 0 (x := a3) dJ5_copyOf_3_31 rfl rfl ?_
    exact aw_aret rfl (Or.inr ⟨_, rfl⟩) (Or.inr ⟨_, rfl⟩) dJ5_copyOf_3_32 hv hc9 hs9
  · have hv := hv.2 c2
    refine aw_aload_n 0 (x := x0) dJ5_copyOf_3_6 rfl rfl ?_
    exact hv.elim
def V_J7_init_0 (l : Launch) (G : aG) (d mc ms : Nat) (P : aR → aH → Prop) (x0 : Nat) (x1 : Int32) (h : aH) : Prop :=
  1 ≤ d ∧
  vNewA .byte h x1 mc ms 0 0 fun a2 h3 c4 s5 => h a2 = none →
  vPut h3 x0 10 0 (.ref a2) fun h7 =>
  vPut h7 x0 10 1 (.int 0) fun h8 =>
  P (.inl none) h8
set_option maxHeartbeats 4000000 in
theorem A_J7_init {l : Launch} {G : aG} {d mc ms : Nat} {P : aR → aH → Prop} {x0 : Nat} {x1 : Int32} {h : aH} (hl : l.stackTraces = false) (hv : V_J7_init_0 l G d mc ms P x0 x1 h) : aC l G mJ7_init (wsN mJ7_init) d mc ms [.ref x0, .int x1] h P := by
  refine aC_ofF (M := mJ7_init) rfl pJ7_init (Nat.le_of_ble_eq_true rfl) hl ?_
  refine aw_eqv (lv2 := [(0, .ref x0), (1, .int x1)]) rfl rfl rfl rfl ?_
  unfold V_J7_init_0 at hv
  refine aw_aload_n 0 (x := x0) dJ7_init_0 rfl rfl ?_
  obtain ⟨hd9, hv⟩ := hv
  refine aw_objInit q409 q159 q160 hd9 (Nat.le_of_ble_eq_true rfl) dJ7_init_1 ?_
  refine aw_getsC q410 dJ7_init_4 ?_
  refine aw_if_eq 25 dJ7_init_7 (by decide) (fun c1 => absurd c1 (by decide)) (fun c1 => ?_)
  refine aw_aload_n 0 (x := x0) dJ7_init_10 rfl rfl ?_
  refine aw_iload_n 1 dJ7_init_11 rfl rfl ?_
  obtain ⟨N9, hn9, hN9, hb9, hc9, hs9, hv⟩ := hv
  refine aw_newa (atype := .byte) (ty := .byte) (a0 := (N9, .inl fun _ => 0)) rfl 3 rfl q433 (fun _ => rfl) hn9 hN9 (by show _ * 1 ≤ _; omega) (fun _ _ h9 => h9) hc9 hs9 dJ7_init_12 (fun a2 g6 => ?_)
  have hv := hv a2 g6 g6
  refine aw_eqv (pc2 := 14) (st2 := [.ref a2, .ref x0]) rfl rfl rfl rfl ?_
  revert hv hc9 hs9; generalize aUp h a2 (.inl (.byte, (N9, .inl fun _ => 0))) = h3; generalize 0 + 1 = c4; generalize 0 + N9 = s5; intro hc9 hs9 hv
  obtain ⟨fs, he, hk9, hv⟩ := hv
  refine aw_put he rfl in_J8 tyJ8_ok nmJ8 0 (by decide) q419 (Or.inl rfl) rfl rfl rfl hk9 rfl dJ7_init_14 ?_
  revert hv; generalize aUp h3 x0 (.inr (10, fs.set 0 (.ref a2))) = h7; intro hv
  refine aw_aload_n 0 (x := x0) dJ7_init_17 rfl rfl ?_
  refine aw_iconst (v := 0) dJ7_init_18 (by decide) ?_
  obtain ⟨fs, he, hk9, hv⟩ := hv
  refine aw_put he rfl in_J8 tyJ8_ok nmJ8 1 (by decide) q420 (Or.inl rfl) rfl rfl rfl hk9 rfl dJ7_init_19 ?_
  revert hv; generalize aUp h7 x0 (.inr (10, fs.set 1 (.int 0))) = h8; intro hv
  refine aw_goto 38 dJ7_init_22 (by decide) ?_
  exact aw_vret rfl dJ7_init_38 hv hc9 hs9
def V_J8_init_0 (l : Launch) (G : aG) (d mc ms : Nat) (P : aR → aH → Prop) (x0 : Nat) (h : aH) : Prop :=
  vC l G mJ7_init (wsN mJ7_init) d mc ms [.ref x0, .int 16] h 0 0 (xP P) (kV fun h2 c3 s4 => 
  P (.inl none) h2)
set_option maxHeartbeats 4000000 in
theorem A_J8_init {l : Launch} {G : aG} {d mc ms : Nat} {P : aR → aH → Prop} {x0 : Nat} {h : aH} (hl : l.stackTraces = false) (hv : V_J8_init_0 l G d mc ms P x0 h) : aC l G mJ8_init (wsN mJ8_init) d mc ms [.ref x0] h P := by
  refine aC_ofF (M := mJ8_init) rfl pJ8_init (Nat.le_of_ble_eq_true rfl) hl ?_
  refine aw_eqv (lv2 := [(0, .ref x0)]) rfl rfl rfl rfl ?_
  unfold V_J8_init_0 at hv
  refine aw_aload_n 0 (x := x0) dJ8_init_0 rfl rfl ?_
  refine aw_bipush (v := 16) dJ8_init_1 (by decide) ?_
  obtain ⟨d2, mc2, ms2, Q, hM, hd9, hc9, hs9, hv, hx⟩ := hv
  refine aw_callI (rest := []) rfl hM nJ7_init rfl q406 q407 q133 q408 dJ8_init_3 rfl hd9 (by decide) (Nat.le_of_ble_eq_true rfl) hc9 hs9 ?_ ?_
  rotate_left
  · exact fun E h2 q => aX_out (hx E h2 q) rfl hc9 hs9
  intro v9 h2 hq
  have hv := hv v9 h2 hq
  obtain ⟨rfl, hv⟩ := hv
  refine aw_eqv (pc2 := 6) (st2 := []) rfl rfl rfl rfl ?_
  revert hv hc9 hs9; generalize 0 + mc2 = c3; generalize 0 + ms2 = s4; intro hc9 hs9 hv
  exact aw_vret rfl dJ8_init_6 hv hc9 hs9
def V_J7_length_0 (l : Launch) (G : aG) (d mc ms : Nat) (P : aR → aH → Prop) (x0 : Nat) (h : aH) : Prop :=
  vI h x0 10 3 fun y1 =>
  P (.inl (some (.int y1))) h
set_option maxHeartbeats 4000000 in
theorem A_J7_length {l : Launch} {G : aG} {d mc ms : Nat} {P : aR → aH → Prop} {x0 : Nat} {h : aH} (hl : l.stackTraces = false) (hv : V_J7_length_0 l G d mc ms P x0 h) : aC l G mJ7_length (wsN mJ7_length) d mc ms [.ref x0] h P := by
  refine aC_ofF (M := mJ7_length) rfl pJ7_length (Nat.le_of_ble_eq_true rfl) hl ?_
  refine aw_eqv (lv2 := [(0, .ref x0)]) rfl rfl rfl rfl ?_
  unfold V_J7_length_0 at hv
  refine aw_aload_n 0 (x := x0) dJ7_length_0 rfl rfl ?_
  obtain ⟨fs, y1, he, hx, hv⟩ := hv
  refine aw_get (v := .int y1) he rfl in_J8 3 (by decide) q423 (Or.inl rfl) hx dJ7_length_1 ?_
  exact aw_iret rfl dJ7_length_4 hv (Nat.zero_le _) (Nat.zero_le _)
def V_J8_length_0 (l : Launch) (G : aG) (d mc ms : Nat) (P : aR → aH → Prop) (x0 : Nat) (h : aH) : Prop :=
  vIs h x0 10 (
  vC l G mJ7_length (wsN mJ7_length) d mc ms [.ref x0] h 0 0 (xP P) (kI fun y1 h2 c3 s4 => 
  P (.inl (some (.int y1))) h2))
set_option maxHeartbeats 4000000 in
theorem A_J8_length {l : Launch} {G : aG} {d mc ms : Nat} {P : aR → aH → Prop} {x0 : Nat} {h : aH} (hl : l.stackTraces = false) (hv : V_J8_length_0 l G d mc ms P x0 h) : aC l G mJ8_length (wsN mJ8_length) d mc ms [.ref x0] h P := by
  refine aC_ofF (M := mJ8_length) rfl pJ8_length (Nat.le_of_ble_eq_true rfl) hl ?_
  refine aw_eqv (lv2 := [(0, .ref x0)]) rfl rfl rfl rfl ?_
  unfold V_J8_length_0 at hv
  refine aw_aload_n 0 (x := x0) dJ8_length_0 rfl rfl ?_
  obtain ⟨⟨fs, he⟩, hv⟩ := hv
  obtain ⟨d2, mc2, ms2, Q, hM, hd9, hc9, hs9, hv, hx⟩ := hv
  refine aw_callSU (rest := []) hM he rfl (by decide +kernel : yJ7_length.name ≠ "<init>" ∧ (parseMethodDescriptor yJ7_length.desc).map (fun d => d.parameters.length) = some 0) q863 q2296 q432 q864 q133 q865 dJ8_length_1 rfl hd9 (by decide) (Nat.le_of_ble_eq_true rfl) hc9 hs9 ?_ ?_
  rotate_left
  · exact fun E h2 q => aX_out (hx E h2 q) rfl hc9 hs9
  intro v9 h2 hq
  have hv := hv v9 h2 hq
  obtain ⟨y1, rfl, hv⟩ := hv
  refine aw_eqv (pc2 := 4) (st2 := [.int y1]) rfl rfl rfl rfl ?_
  revert hv hc9 hs9; generalize 0 + mc2 = c3; generalize 0 + ms2 = s4; intro hc9 hs9 hv
  exact aw_iret rfl dJ8_length_4 hv hc9 hs9
def V_J7_newCapacity_0 (l : Launch) (G : aG) (d mc ms : Nat) (P : aR → aH → Prop) (x0 : Nat) (x1 : Int32) (h : aH) : Prop :=
  vR h x0 10 0 fun a1 =>
  vLen h a1 fun y2 =>
  vI h x0 10 1 fun y3 =>
  vI h x0 10 1 fun y4 =>
  vC l G mJ3_newLength (wsN mJ3_newLength) d mc ms [.int y2, .int ((x1 <<< (y3 &&& 31)) - y2), .int (y2 + ((2 : Int32) <<< (y4 &&& 31)))] h 0 0 (xP P) (kI fun y5 h6 c7 s8 => 
  (¬ y5 = 2147483647 → 
    vI h6 x0 10 1 fun y10 =>
    P (.inl (some (.int (y5 >>> (y10 &&& 31))))) h6
    ) ∧ (y5 = 2147483647 → 
    False
    ))
set_option maxHeartbeats 4000000 in
theorem A_J7_newCapacity {l : Launch} {G : aG} {d mc ms : Nat} {P : aR → aH → Prop} {x0 : Nat} {x1 : Int32} {h : aH} (hl : l.stackTraces = false) (hv : V_J7_newCapacity_0 l G d mc ms P x0 x1 h) : aC l G mJ7_newCapacity (wsN mJ7_newCapacity) d mc ms [.ref x0, .int x1] h P := by
  refine aC_ofF (M := mJ7_newCapacity) rfl pJ7_newCapacity (Nat.le_of_ble_eq_true rfl) hl ?_
  refine aw_eqv (lv2 := [(0, .ref x0), (1, .int x1)]) rfl rfl rfl rfl ?_
  unfold V_J7_newCapacity_0 at hv
  refine aw_aload_n 0 (x := x0) dJ7_newCapacity_0 rfl rfl ?_
  obtain ⟨fs, a1, he, hx, hv⟩ := hv
  refine aw_get (v := .ref a1) he rfl in_J8 0 (by decide) q419 (Or.inl rfl) hx dJ7_newCapacity_1 ?_
  obtain ⟨x9, j9, he, hj, hv⟩ := hv
  refine aw_alen j9 hj he dJ7_newCapacity_4 ?_
  revert hv; generalize Int32.ofNat x9.2.1 = y2; intro hv
  refine aw_istore_n (lv' := [(2, .int y2), (0, .ref x0), (1, .int x1)]) dJ7_newCapacity_5 rfl (Nat.le_of_ble_eq_true rfl) rfl ?_
  refine aw_iload_n 2 dJ7_newCapacity_6 rfl rfl ?_
  refine aw_aload_n 1 (x := x0) dJ7_newCapacity_7 rfl rfl ?_
  obtain ⟨fs, y3, he, hx, hv⟩ := hv
  refine aw_get (v := .int y3) he rfl in_J8 1 (by decide) q420 (Or.inl rfl) hx dJ7_newCapacity_8 ?_
  refine aw_ishl dJ7_newCapacity_11 ?_
  refine aw_istore_n (lv' := [(3, .int (x1 <<< (y3 &&& 31))), (2, .int y2), (0, .ref x0), (1, .int x1)]) dJ7_newCapacity_12 rfl (Nat.le_of_ble_eq_true rfl) rfl ?_
  refine aw_iload_n 0 dJ7_newCapacity_13 rfl rfl ?_
  refine aw_iload_n 1 dJ7_newCapacity_14 rfl rfl ?_
  refine aw_isub dJ7_newCapacity_15 ?_
  refine aw_istore (lv' := [(4, .int ((x1 <<< (y3 &&& 31)) - y2)), (3, .int (x1 <<< (y3 &&& 31))), (2, .int y2), (0, .ref x0), (1, .int x1)]) dJ7_newCapacity_16 (Nat.le_of_ble_eq_true rfl) rfl ?_
  refine aw_iload_n 2 dJ7_newCapacity_18 rfl rfl ?_
  refine aw_iload 0 dJ7_newCapacity_19 rfl ?_
  refine aw_iload_n 2 dJ7_newCapacity_21 rfl rfl ?_
  refine aw_iconst (v := 2) dJ7_newCapacity_22 (by decide) ?_
  refine aw_aload_n 3 (x := x0) dJ7_newCapacity_23 rfl rfl ?_
  obtain ⟨fs, y4, he, hx, hv⟩ := hv
  refine aw_get (v := .int y4) he rfl in_J8 1 (by decide) q420 (Or.inl rfl) hx dJ7_newCapacity_24 ?_
  refine aw_ishl dJ7_newCapacity_27 ?_
  refine aw_iadd dJ7_newCapacity_28 ?_
  obtain ⟨d2, mc2, ms2, Q, hM, hd9, hc9, hs9, hv, hx⟩ := hv
  refine aw_callS (rest := []) hM nJ3_newLength q900 q246 q127 q247 dJ7_newCapacity_29 rfl hd9 (by decide) (Nat.le_of_ble_eq_true rfl) hc9 hs9 ?_ ?_
  rotate_left
  · exact fun E h2 q => aX_out (hx E h2 q) rfl hc9 hs9
  intro v9 h6 hq
  have hv := hv v9 h6 hq
  obtain ⟨y5, rfl, hv⟩ := hv
  refine aw_eqv (pc2 := 32) (st2 := [.int y5]) rfl rfl rfl rfl ?_
  revert hv hc9 hs9; generalize 0 + mc2 = c7; generalize 0 + ms2 = s8; intro hc9 hs9 hv
  refine aw_istore (lv' := [(5, .int y5), (4, .int ((x1 <<< (y3 &&& 31)) - y2)), (3, .int (x1 <<< (y3 &&& 31))), (2, .int y2), (0, .ref x0), (1, .int x1)]) dJ7_newCapacity_32 (Nat.le_of_ble_eq_true rfl) rfl ?_
  refine aw_iload 0 dJ7_newCapacity_34 rfl ?_
  refine aw_ldc (v := 2147483647) q901 dJ7_newCapacity_36 ?_
  refine aw_icmp_ne 51 dJ7_newCapacity_38 (by decide) (fun c9 => ?_) (fun c9 => ?_)
  · have hv := hv.1 c9
    refine aw_iload 0 dJ7_newCapacity_51 rfl ?_
    refine aw_aload_n 4 (x := x0) dJ7_newCapacity_53 rfl rfl ?_
    obtain ⟨fs, y10, he, hx, hv⟩ := hv
    refine aw_get (v := .int y10) he rfl in_J8 1 (by decide) q420 (Or.inl rfl) hx dJ7_newCapacity_54 ?_
    refine aw_ishr dJ7_newCapacity_57 ?_
    exact aw_iret rfl dJ7_newCapacity_58 hv hc9 hs9
  · have hv := hv.2 c9
    exact hv.elim
def V_J7_ensureCapacityInternal_0 (l : Launch) (G : aG) (d mc ms : Nat) (P : aR → aH → Prop) (x0 : Nat) (x1 : Int32) (h : aH) : Prop :=
  vR h x0 10 0 fun a1 =>
  vLen h a1 fun y2 =>
  vI h x0 10 1 fun y3 =>
  ((x1 - (y2 >>> (y3 &&& 31))) ≤ 0 → 
    P (.inl none) h
    ) ∧ (¬ (x1 - (y2 >>> (y3 &&& 31))) ≤ 0 → 
    vR h x0 10 0 fun a5 =>
    vIs h x0 10 (
    vC l G mJ7_newCapacity (wsN mJ7_newCapacity) d mc ms [.ref x0, .int x1] h 0 0 (xP P) (kI fun y6 h7 c8 s9 => 
    vI h7 x0 10 1 fun y10 =>
    vC l G mJ5_copyOf_3 (wsN mJ5_copyOf_3) d mc ms [.ref a5, .int (y6 <<< (y10 &&& 31))] h7 c8 s9 (xP P) (kR fun a11 h12 c13 s14 => 
    vPut h12 x0 10 0 (.ref a11) fun h15 =>
    P (.inl none) h15)))
    )
set_option maxHeartbeats 4000000 in
theorem A_J7_ensureCapacityInternal {l : Launch} {G : aG} {d mc ms : Nat} {P : aR → aH → Prop} {x0 : Nat} {x1 : Int32} {h : aH} (hl : l.stackTraces = false) (hv : V_J7_ensureCapacityInternal_0 l G d mc ms P x0 x1 h) : aC l G mJ7_ensureCapacityInternal (wsN mJ7_ensureCapacityInternal) d mc ms [.ref x0, .int x1] h P := by
  refine aC_ofF (M := mJ7_ensureCapacityInternal) rfl pJ7_ensureCapacityInternal (Nat.le_of_ble_eq_true rfl) hl ?_
  refine aw_eqv (lv2 := [(0, .ref x0), (1, .int x1)]) rfl rfl rfl rfl ?_
  unfold V_J7_ensureCapacityInternal_0 at hv
  refine aw_aload_n 0 (x := x0) dJ7_ensureCapacityInternal_0 rfl rfl ?_
  obtain ⟨fs, a1, he, hx, hv⟩ := hv
  refine aw_get (v := .ref a1) he rfl in_J8 0 (by decide) q419 (Or.inl rfl) hx dJ7_ensureCapacityInternal_1 ?_
  obtain ⟨x9, j9, he, hj, hv⟩ := hv
  refine aw_alen j9 hj he dJ7_ensureCapacityInternal_4 ?_
  revert hv; generalize Int32.ofNat x9.2.1 = y2; intro hv
  refine aw_aload_n 0 (x := x0) dJ7_ensureCapacityInternal_5 rfl rfl ?_
  obtain ⟨fs, y3, he, hx, hv⟩ := hv
  refine aw_get (v := .int y3) he rfl in_J8 1 (by decide) q420 (Or.inl rfl) hx dJ7_ensureCapacityInternal_6 ?_
  refine aw_ishr dJ7_ensureCapacityInternal_9 ?_
  refine aw_istore_n (lv' := [(2, .int (y2 >>> (y3 &&& 31))), (0, .ref x0), (1, .int x1)]) dJ7_ensureCapacityInternal_10 rfl (Nat.le_of_ble_eq_true rfl) rfl ?_
  refine aw_iload_n 2 dJ7_ensureCapacityInternal_11 rfl rfl ?_
  refine aw_iload_n 0 dJ7_ensureCapacityInternal_12 rfl rfl ?_
  refine aw_isub dJ7_ensureCapacityInternal_13 ?_
  refine aw_if_le 38 dJ7_ensureCapacityInternal_14 (by decide) (fun c4 => ?_) (fun c4 => ?_)
  · have hv := hv.1 c4
    exact aw_vret rfl dJ7_ensureCapacityInternal_38 hv (Nat.zero_le _) (Nat.zero_le _)
  · have hv := hv.2 c4
    refine aw_aload_n 1 (x := x0) dJ7_ensureCapacityInternal_17 rfl rfl ?_
    refine aw_aload_n 1 (x := x0) dJ7_ensureCapacityInternal_18 rfl rfl ?_
    obtain ⟨fs, a5, he, hx, hv⟩ := hv
    refine aw_get (v := .ref a5) he rfl in_J8 0 (by decide) q419 (Or.inl rfl) hx dJ7_ensureCapacityInternal_19 ?_
    refine aw_aload_n 1 (x := x0) dJ7_ensureCapacityInternal_22 rfl rfl ?_
    refine aw_iload_n 2 dJ7_ensureCapacityInternal_23 rfl rfl ?_
    obtain ⟨⟨fs, he⟩, hv⟩ := hv
    obtain ⟨d2, mc2, ms2, Q, hM, hd9, hc9, hs9, hv, hx⟩ := hv
    refine aw_callP (rest := [.ref a5, .ref x0]) (z := ⟨"java/lang/AbstractStringBuilder", "isLatin1", "()Z"⟩) hM he rfl nJ7_newCapacity q896 rfl q915 q897 q898 q133 q899 dJ7_ensureCapacityInternal_24 rfl hd9 (by decide) (Nat.le_of_ble_eq_true rfl) hc9 hs9 ?_ ?_
    rotate_left
    · exact fun E h2 q => aX_out (hx E h2 q) rfl hc9 hs9
    intro v9 h7 hq
    have hv := hv v9 h7 hq
    obtain ⟨y6, rfl, hv⟩ := hv
    refine aw_eqv (pc2 := 27) (st2 := [.int y6, .ref a5, .ref x0]) rfl rfl rfl rfl ?_
    revert hv hc9 hs9; generalize 0 + mc2 = c8; generalize 0 + ms2 = s9; intro hc9 hs9 hv
    refine aw_aload_n 1 (x := x0) dJ7_ensureCapacityInternal_27 rfl rfl ?_
    obtain ⟨fs, y10, he, hx, hv⟩ := hv
    refine aw_get (v := .int y10) he rfl in_J8 1 (by decide) q420 (Or.inl rfl) hx dJ7_ensureCapacityInternal_28 ?_
    refine aw_ishl dJ7_ensureCapacityInternal_31 ?_
    obtain ⟨d2, mc2, ms2, Q, hM, hd9, hc9, hs9, hv, hx⟩ := hv
    refine aw_callS (rest := [.ref x0]) hM nJ5_copyOf_3 q902 q903 q129 q904 dJ7_ensureCapacityInternal_32 rfl hd9 (by decide) (Nat.le_of_ble_eq_true rfl) hc9 hs9 ?_ ?_
    rotate_left
    · exact fun E h2 q => aX_out (hx E h2 q) rfl hc9 hs9
    intro v9 h12 hq
    have hv := hv v9 h12 hq
    obtain ⟨a11, rfl, hv⟩ := hv
    refine aw_eqv (pc2 := 35) (st2 := [.ref a11, .ref x0]) rfl rfl rfl rfl ?_
    revert hv hc9 hs9; generalize c8 + mc2 = c13; generalize s9 + ms2 = s14; intro hc9 hs9 hv
    obtain ⟨fs, he, hk9, hv⟩ := hv
    refine aw_put he rfl in_J8 tyJ8_ok nmJ8 0 (by decide) q419 (Or.inl rfl) rfl rfl rfl hk9 rfl dJ7_ensureCapacityInternal_35 ?_
    revert hv; generalize aUp h12 x0 (.inr (10, fs.set 0 (.ref a11))) = h15; intro hv
    exact aw_vret rfl dJ7_ensureCapacityInternal_38 hv hc9 hs9
def V_J7_isLatin1_0 (l : Launch) (G : aG) (d mc ms : Nat) (P : aR → aH → Prop) (x0 : Nat) (h : aH) : Prop :=
  vI h x0 10 1 fun y2 =>
  vB (if y2 = 0 then (1 : Int32) else 0) ∧ P (.inl (some (.int (if y2 = 0 then (1 : Int32) else 0)))) h
set_option maxHeartbeats 4000000 in
theorem A_J7_isLatin1 {l : Launch} {G : aG} {d mc ms : Nat} {P : aR → aH → Prop} {x0 : Nat} {h : aH} (hl : l.stackTraces = false) (hv : V_J7_isLatin1_0 l G d mc ms P x0 h) : aC l G mJ7_isLatin1 (wsN mJ7_isLatin1) d mc ms [.ref x0] h P := by
  refine aC_ofF (M := mJ7_isLatin1) rfl pJ7_isLatin1 (Nat.le_of_ble_eq_true rfl) hl ?_
  refine aw_eqv (lv2 := [(0, .ref x0)]) rfl rfl rfl rfl ?_
  unfold V_J7_isLatin1_0 at hv
  refine aw_getsC q410 dJ7_isLatin1_0 ?_
  refine aw_if_eq 17 dJ7_isLatin1_3 (by decide) (fun c1 => absurd c1 (by decide)) (fun c1 => ?_)
  refine aw_aload_n 0 (x := x0) dJ7_isLatin1_6 rfl rfl ?_
  obtain ⟨fs, y2, he, hx, hv⟩ := hv
  refine aw_get (v := .int y2) he rfl in_J8 1 (by decide) q420 (Or.inl rfl) hx dJ7_isLatin1_7 ?_
  have J9 : AW l G mJ7_isLatin1 d mc ms P 18 [(0, .ref x0)] [.int (if y2 = 0 then (1 : Int32) else 0)] h 0 0 := by
    obtain ⟨z4, hv⟩ := hv
    exact aw_zret rfl z4.nar dJ7_isLatin1_18 hv (Nat.zero_le _) (Nat.zero_le _)
  refine aw_if_ne 17 dJ7_isLatin1_10 (by decide) (fun c3 => ?_) (fun c3 => ?_)
  · have J9 := aw_ifF c3 J9
    refine aw_iconst (v := 0) dJ7_isLatin1_17 (by decide) ?_
    exact J9
  · have J9 := aw_ifT c3 J9
    refine aw_iconst (v := 1) dJ7_isLatin1_13 (by decide) ?_
    refine aw_goto 18 dJ7_isLatin1_14 (by decide) ?_
    exact J9
def V_J20_canEncode_0 (l : Launch) (G : aG) (d mc ms : Nat) (P : aR → aH → Prop) (x0 : Int32) (h : aH) : Prop :=
  vB (if x0 < 0 then (0 : Int32) else if 255 < x0 then (0 : Int32) else 1) ∧ P (.inl (some (.int (if x0 < 0 then (0 : Int32) else if 255 < x0 then (0 : Int32) else 1)))) h
set_option maxHeartbeats 4000000 in
theorem A_J20_canEncode {l : Launch} {G : aG} {d mc ms : Nat} {P : aR → aH → Prop} {x0 : Int32} {h : aH} (hl : l.stackTraces = false) (hv : V_J20_canEncode_0 l G d mc ms P x0 h) : aC l G mJ20_canEncode (wsN mJ20_canEncode) d mc ms [.int x0] h P := by
  refine aC_ofF (M := mJ20_canEncode) rfl pJ20_canEncode (Nat.le_of_ble_eq_true rfl) hl ?_
  refine aw_eqv (lv2 := [(0, .int x0)]) rfl rfl rfl rfl ?_
  unfold V_J20_canEncode_0 at hv
  refine aw_iload_n 0 dJ20_canEncode_0 rfl rfl ?_
  have J9 : AW l G mJ20_canEncode d mc ms P 16 [(0, .int x0)] [.int (if x0 < 0 then (0 : Int32) else if 255 < x0 then (0 : Int32) else 1)] h 0 0 := by
    obtain ⟨z3, hv⟩ := hv
    exact aw_zret rfl z3.nar dJ20_canEncode_16 hv (Nat.zero_le _) (Nat.zero_le _)
  refine aw_if_lt 15 dJ20_canEncode_1 (by decide) (fun c1 => ?_) (fun c1 => ?_)
  · have J9 := aw_ifT c1 J9
    refine aw_iconst (v := 0) dJ20_canEncode_15 (by decide) ?_
    exact J9
  · have J9 := aw_ifF c1 J9
    refine aw_iload_n 0 dJ20_canEncode_4 rfl rfl ?_
    refine aw_sipush (v := 255) dJ20_canEncode_5 (by decide) ?_
    refine aw_icmp_gt 15 dJ20_canEncode_8 (by decide) (fun c2 => ?_) (fun c2 => ?_)
    · have J9 := aw_ifT c2 J9
      refine aw_iconst (v := 0) dJ20_canEncode_15 (by decide) ?_
      exact J9
    · have J9 := aw_ifF c2 J9
      refine aw_iconst (v := 1) dJ20_canEncode_11 (by decide) ?_
      refine aw_goto 16 dJ20_canEncode_12 (by decide) ?_
      exact J9
def V_J20_canEncode_2_0 (l : Launch) (G : aG) (d mc ms : Nat) (P : aR → aH → Prop) (x0 : Int32) (h : aH) : Prop :=
  vB (if 255 < x0 then (0 : Int32) else 1) ∧ P (.inl (some (.int (if 255 < x0 then (0 : Int32) else 1)))) h
set_option maxHeartbeats 4000000 in
theorem A_J20_canEncode_2 {l : Launch} {G : aG} {d mc ms : Nat} {P : aR → aH → Prop} {x0 : Int32} {h : aH} (hl : l.stackTraces = false) (hv : V_J20_canEncode_2_0 l G d mc ms P x0 h) : aC l G mJ20_canEncode_2 (wsN mJ20_canEncode_2) d mc ms [.int x0] h P := by
  refine aC_ofF (M := mJ20_canEncode_2) rfl pJ20_canEncode_2 (Nat.le_of_ble_eq_true rfl) hl ?_
  refine aw_eqv (lv2 := [(0, .int x0)]) rfl rfl rfl rfl ?_
  unfold V_J20_canEncode_2_0 at hv
  refine aw_iload_n 0 dJ20_canEncode_2_0 rfl rfl ?_
  refine aw_sipush (v := 255) dJ20_canEncode_2_1 (by decide) ?_
  have J9 : AW l G mJ20_canEncode_2 d mc ms P 12 [(0, .int x0)] [.int (if 255 < x0 then (0 : Int32) else 1)] h 0 0 := by
    obtain ⟨z2, hv⟩ := hv
    exact aw_zret rfl z2.nar dJ20_canEncode_2_12 hv (Nat.zero_le _) (Nat.zero_le _)
  refine aw_icmp_gt 11 dJ20_canEncode_2_4 (by decide) (fun c1 => ?_) (fun c1 => ?_)
  · have J9 := aw_ifT c1 J9
    refine aw_iconst (v := 0) dJ20_canEncode_2_11 (by decide) ?_
    exact J9
  · have J9 := aw_ifF c1 J9
    refine aw_iconst (v := 1) dJ20_canEncode_2_7 (by decide) ?_
    refine aw_goto 12 dJ20_canEncode_2_8 (by decide) ?_
    exact J9
def T_J7_append_3_45 (l : Launch) (G : aG) (d mc ms : Nat) (P : aR → aH → Prop) (x0 : Nat) (x1 : Int32) (h : aH) (c s : Nat) : Prop := c ≤ mc → s ≤ ms → AW l G mJ7_append_3 d mc ms P 45 [(0, .ref x0), (1, .int x1)] [] h c s
def V_J7_append_3_45 (l : Launch) (G : aG) (d mc ms : Nat) (P : aR → aH → Prop) (x0 : Nat) (x1 : Int32) (h : aH) (c s : Nat) : Prop :=
  vIs h x0 10 (
  vC l G mJ7_isLatin1 (wsN mJ7_isLatin1) d mc ms [.ref x0] h c s (xP P) (kI fun y1 h2 c3 s4 => 
  (y1 = 0 → 
    vR h2 x0 10 0 fun a6 =>
    vI h2 x0 10 3 fun y7 =>
    vPut h2 x0 10 3 (.int (y7 + (1 : Int32))) fun h8 =>
    False
    ) ∧ (¬ y1 = 0 → 
    False
    )))
set_option maxHeartbeats 4000000 in
theorem A_J7_append_3_45 {l : Launch} {G : aG} {d mc ms : Nat} {P : aR → aH → Prop} {x0 : Nat} {x1 : Int32} {h : aH} {c s : Nat} (hl : l.stackTraces = false) (hv : V_J7_append_3_45 l G d mc ms P x0 x1 h c s) : T_J7_append_3_45 l G d mc ms P x0 x1 h c s := by
  intro hc hs
  unfold V_J7_append_3_45 at hv
  refine aw_aload_n 0 (x := x0) dJ7_append_3_45 rfl rfl ?_
  obtain ⟨⟨fs, he⟩, hv⟩ := hv
  obtain ⟨d2, mc2, ms2, Q, hM, hd9, hc9, hs9, hv, hx⟩ := hv
  refine aw_callU (rest := []) hM he rfl nJ7_isLatin1 q912 q914 q915 q913 q133 q916 dJ7_append_3_46 rfl hd9 (by decide) (Nat.le_of_ble_eq_true rfl) hc9 hs9 ?_ ?_
  rotate_left
  · exact fun E h2 q => aX_out (hx E h2 q) rfl hc9 hs9
  intro v9 h2 hq
  have hv := hv v9 h2 hq
  obtain ⟨y1, rfl, hv⟩ := hv
  refine aw_eqv (pc2 := 49) (st2 := [.int y1]) rfl rfl rfl rfl ?_
  revert hv hc9 hs9; generalize c + mc2 = c3; generalize s + ms2 = s4; intro hc9 hs9 hv
  refine aw_if_eq 56 dJ7_append_3_49 (by decide) (fun c5 => ?_) (fun c5 => ?_)
  · have hv := hv.1 c5
    refine aw_aload_n 0 (x := x0) dJ7_append_3_56 rfl rfl ?_
    obtain ⟨fs, a6, he, hx, hv⟩ := hv
    refine aw_get (v := .ref a6) he rfl in_J8 0 (by decide) q419 (Or.inl rfl) hx dJ7_append_3_57 ?_
    refine aw_aload_n 0 (x := x0) dJ7_append_3_60 rfl rfl ?_
    refine aw_dup dJ7_append_3_61 rfl ?_
    obtain ⟨fs, y7, he, hx, hv⟩ := hv
    refine aw_get (v := .int y7) he rfl in_J8 3 (by decide) q423 (Or.inl rfl) hx dJ7_append_3_62 ?_
    refine aw_dup_x1 dJ7_append_3_65 rfl rfl ?_
    refine aw_iconst (v := 1) dJ7_append_3_66 (by decide) ?_
    refine aw_iadd dJ7_append_3_67 ?_
    obtain ⟨fs, he, hk9, hv⟩ := hv
    refine aw_put he rfl in_J8 tyJ8_ok nmJ8 3 (by decide) q423 (Or.inl rfl) rfl rfl rfl hk9 rfl dJ7_append_3_68 ?_
    revert hv; generalize aUp h2 x0 (.inr (10, fs.set 3 (.int (y7 + (1 : Int32))))) = h8; intro hv
    refine aw_iload_n 1 dJ7_append_3_71 rfl rfl ?_
    exact hv.elim
  · have hv := hv.2 c5
    refine aw_aload_n 0 (x := x0) dJ7_append_3_52 rfl rfl ?_
    exact hv.elim
def V_J7_append_3_0 (l : Launch) (G : aG) (d mc ms : Nat) (P : aR → aH → Prop) (x0 : Nat) (x1 : Int32) (h : aH) : Prop :=
  vI h x0 10 3 fun y9 =>
  vIs h x0 10 (
  vC l G mJ7_ensureCapacityInternal (wsN mJ7_ensureCapacityInternal) d mc ms [.ref x0, .int (y9 + (1 : Int32))] h 0 0 (xP P) (kV fun h11 c12 s13 => 
  vIs h11 x0 10 (
  vC l G mJ7_isLatin1 (wsN mJ7_isLatin1) d mc ms [.ref x0] h11 c12 s13 (xP P) (kI fun y14 h15 c16 s17 => 
  (y14 = 0 → 
    T_J7_append_3_45 l G d mc ms P x0 x1 h15 c16 s17
    ) ∧ (¬ y14 = 0 → 
    vC l G mJ20_canEncode_2 (wsN mJ20_canEncode_2) d mc ms [.int x1] h15 c16 s17 (xP P) (kI fun y19 h20 c21 s22 => 
    (y19 = 0 → 
      T_J7_append_3_45 l G d mc ms P x0 x1 h20 c21 s22
      ) ∧ (¬ y19 = 0 → 
      vR h20 x0 10 0 fun a24 =>
      vI h20 x0 10 3 fun y25 =>
      vPut h20 x0 10 3 (.int (y25 + (1 : Int32))) fun h26 =>
      vSt .byte h26 a24 y25 (vp_nar .byte x1.toInt8.toInt32) fun h27 =>
      P (.inl (some (.ref x0))) h27
      ))
    )))))
set_option maxHeartbeats 4000000 in
theorem A_J7_append_3 {l : Launch} {G : aG} {d mc ms : Nat} {P : aR → aH → Prop} {x0 : Nat} {x1 : Int32} {h : aH} (hl : l.stackTraces = false) (hv : V_J7_append_3_0 l G d mc ms P x0 x1 h) : aC l G mJ7_append_3 (wsN mJ7_append_3) d mc ms [.ref x0, .int x1] h P := by
  refine aC_ofF (M := mJ7_append_3) rfl pJ7_append_3 (Nat.le_of_ble_eq_true rfl) hl ?_
  refine aw_eqv (lv2 := [(0, .ref x0), (1, .int x1)]) rfl rfl rfl rfl ?_
  unfold V_J7_append_3_0 at hv
  refine aw_aload_n 0 (x := x0) dJ7_append_3_0 rfl rfl ?_
  refine aw_aload_n 0 (x := x0) dJ7_append_3_1 rfl rfl ?_
  obtain ⟨fs, y9, he, hx, hv⟩ := hv
  refine aw_get (v := .int y9) he rfl in_J8 3 (by decide) q423 (Or.inl rfl) hx dJ7_append_3_2 ?_
  refine aw_iconst (v := 1) dJ7_append_3_5 (by decide) ?_
  refine aw_iadd dJ7_append_3_6 ?_
  obtain ⟨⟨fs, he⟩, hv⟩ := hv
  obtain ⟨d2, mc2, ms2, Q, hM, hd9, hc9, hs9, hv, hx⟩ := hv
  refine aw_callP (rest := []) (z := ⟨"java/lang/AbstractStringBuilder", "isLatin1", "()Z"⟩) hM he rfl nJ7_ensureCapacityInternal q892 rfl q915 q893 q894 q133 q895 dJ7_append_3_7 rfl hd9 (by decide) (Nat.le_of_ble_eq_true rfl) hc9 hs9 ?_ ?_
  rotate_left
  · exact fun E h2 q => aX_out (hx E h2 q) rfl hc9 hs9
  intro v9 h11 hq
  have hv := hv v9 h11 hq
  obtain ⟨rfl, hv⟩ := hv
  refine aw_eqv (pc2 := 10) (st2 := []) rfl rfl rfl rfl ?_
  revert hv hc9 hs9; generalize 0 + mc2 = c12; generalize 0 + ms2 = s13; intro hc9 hs9 hv
  refine aw_aload_n 0 (x := x0) dJ7_append_3_10 rfl rfl ?_
  obtain ⟨⟨fs, he⟩, hv⟩ := hv
  obtain ⟨d2, mc2, ms2, Q, hM, hd9, hc9, hs9, hv, hx⟩ := hv
  refine aw_callU (rest := []) hM he rfl nJ7_isLatin1 q912 q914 q915 q913 q133 q916 dJ7_append_3_11 rfl hd9 (by decide) (Nat.le_of_ble_eq_true rfl) hc9 hs9 ?_ ?_
  rotate_left
  · exact fun E h2 q => aX_out (hx E h2 q) rfl hc9 hs9
  intro v9 h15 hq
  have hv := hv v9 h15 hq
  obtain ⟨y14, rfl, hv⟩ := hv
  refine aw_eqv (pc2 := 14) (st2 := [.int y14]) rfl rfl rfl rfl ?_
  revert hv hc9 hs9; generalize c12 + mc2 = c16; generalize s13 + ms2 = s17; intro hc9 hs9 hv
  refine aw_if_eq 45 dJ7_append_3_14 (by decide) (fun c18 => ?_) (fun c18 => ?_)
  · have hv := hv.1 c18
    exact hv hc9 hs9
  · have hv := hv.2 c18
    refine aw_iload_n 1 dJ7_append_3_17 rfl rfl ?_
    obtain ⟨d2, mc2, ms2, Q, hM, hd9, hc9, hs9, hv, hx⟩ := hv
    refine aw_callS (rest := []) hM nJ20_canEncode_2 q1662 q1663 q149 q1664 dJ7_append_3_18 rfl hd9 (by decide) (Nat.le_of_ble_eq_true rfl) hc9 hs9 ?_ ?_
    rotate_left
    · exact fun E h2 q => aX_out (hx E h2 q) rfl hc9 hs9
    intro v9 h20 hq
    have hv := hv v9 h20 hq
    obtain ⟨y19, rfl, hv⟩ := hv
    refine aw_eqv (pc2 := 21) (st2 := [.int y19]) rfl rfl rfl rfl ?_
    revert hv hc9 hs9; generalize c16 + mc2 = c21; generalize s17 + ms2 = s22; intro hc9 hs9 hv
    refine aw_if_eq 45 dJ7_append_3_21 (by decide) (fun c23 => ?_) (fun c23 => ?_)
    · have hv := hv.1 c23
      exact hv hc9 hs9
    · have hv := hv.2 c23
      refine aw_aload_n 0 (x := x0) dJ7_append_3_24 rfl rfl ?_
      obtain ⟨fs, a24, he, hx, hv⟩ := hv
      refine aw_get (v := .ref a24) he rfl in_J8 0 (by decide) q419 (Or.inl rfl) hx dJ7_append_3_25 ?_
      refine aw_aload_n 0 (x := x0) dJ7_append_3_28 rfl rfl ?_
      refine aw_dup dJ7_append_3_29 rfl ?_
      obtain ⟨fs, y25, he, hx, hv⟩ := hv
      refine aw_get (v := .int y25) he rfl in_J8 3 (by decide) q423 (Or.inl rfl) hx dJ7_append_3_30 ?_
      refine aw_dup_x1 dJ7_append_3_33 rfl rfl ?_
      refine aw_iconst (v := 1) dJ7_append_3_34 (by decide) ?_
      refine aw_iadd dJ7_append_3_35 ?_
      obtain ⟨fs, he, hk9, hv⟩ := hv
      refine aw_put he rfl in_J8 tyJ8_ok nmJ8 3 (by decide) q423 (Or.inl rfl) rfl rfl rfl hk9 rfl dJ7_append_3_36 ?_
      revert hv; generalize aUp h20 x0 (.inr (10, fs.set 3 (.int (y25 + (1 : Int32))))) = h26; intro hv
      refine aw_iload_n 1 dJ7_append_3_39 rfl rfl ?_
      refine aw_i2b dJ7_append_3_40 ?_
      obtain ⟨n9, f9, he, hin, hv⟩ := hv
      refine aw_bast he hin rfl dJ7_append_3_41 ?_
      revert hv; generalize aUp h26 a24 (aInts .byte n9 (upd f9 (y25).toNatClampNeg (vp_nar .byte x1.toInt8.toInt32))) = h27; intro hv
      refine aw_goto 75 dJ7_append_3_42 (by decide) ?_
      refine aw_aload_n 0 (x := x0) dJ7_append_3_75 rfl rfl ?_
      exact aw_aret rfl (Or.inl ⟨_, rfl⟩) (Or.inr ⟨_, rfl⟩) dJ7_append_3_76 hv hc9 hs9
def V_J8_append_3_0 (l : Launch) (G : aG) (d mc ms : Nat) (P : aR → aH → Prop) (x0 : Nat) (x1 : Int32) (h : aH) : Prop :=
  vIs h x0 10 (
  vC l G mJ7_append_3 (wsN mJ7_append_3) d mc ms [.ref x0, .int x1] h 0 0 (xP P) (kR fun a1 h2 c3 s4 => 
  P (.inl (some (.ref x0))) h2))
set_option maxHeartbeats 4000000 in
theorem A_J8_append_3 {l : Launch} {G : aG} {d mc ms : Nat} {P : aR → aH → Prop} {x0 : Nat} {x1 : Int32} {h : aH} (hl : l.stackTraces = false) (hv : V_J8_append_3_0 l G d mc ms P x0 x1 h) : aC l G mJ8_append_3 (wsN mJ8_append_3) d mc ms [.ref x0, .int x1] h P := by
  refine aC_ofF (M := mJ8_append_3) rfl pJ8_append_3 (Nat.le_of_ble_eq_true rfl) hl ?_
  refine aw_eqv (lv2 := [(0, .ref x0), (1, .int x1)]) rfl rfl rfl rfl ?_
  unfold V_J8_append_3_0 at hv
  refine aw_aload_n 0 (x := x0) dJ8_append_3_0 rfl rfl ?_
  refine aw_iload_n 1 dJ8_append_3_1 rfl rfl ?_
  obtain ⟨⟨fs, he⟩, hv⟩ := hv
  obtain ⟨d2, mc2, ms2, Q, hM, hd9, hc9, hs9, hv, hx⟩ := hv
  refine aw_callSU (rest := []) hM he rfl (by decide +kernel : yJ7_append_3.name ≠ "<init>" ∧ (parseMethodDescriptor yJ7_append_3.desc).map (fun d => d.parameters.length) = some 1) q1659 q2309 q432 q1660 q133 q1661 dJ8_append_3_2 rfl hd9 (by decide) (Nat.le_of_ble_eq_true rfl) hc9 hs9 ?_ ?_
  rotate_left
  · exact fun E h2 q => aX_out (hx E h2 q) rfl hc9 hs9
  intro v9 h2 hq
  have hv := hv v9 h2 hq
  obtain ⟨a1, rfl, hv⟩ := hv
  refine aw_eqv (pc2 := 5) (st2 := [.ref a1]) rfl rfl rfl rfl ?_
  revert hv hc9 hs9; generalize 0 + mc2 = c3; generalize 0 + ms2 = s4; intro hc9 hs9 hv
  refine aw_pop dJ8_append_3_5 rfl ?_
  refine aw_aload_n 0 (x := x0) dJ8_append_3_6 rfl rfl ?_
  exact aw_aret rfl (Or.inl ⟨_, rfl⟩) (Or.inr ⟨_, rfl⟩) dJ8_append_3_7 hv hc9 hs9
def V_J9_checkIndex_0 (l : Launch) (G : aG) (d mc ms : Nat) (P : aR → aH → Prop) (x0 : Int32) (x1 : Int32) (h : aH) : Prop :=
  ∀ o1 : Option Nat,
  vC l G mJ16_checkIndex (wsN mJ16_checkIndex) d mc ms [.int x0, .int x1, va_rf o1] h 0 0 (xP P) (kI fun y2 h3 c4 s5 => 
  P (.inl none) h3)
set_option maxHeartbeats 4000000 in
theorem A_J9_checkIndex {l : Launch} {G : aG} {d mc ms : Nat} {P : aR → aH → Prop} {x0 : Int32} {x1 : Int32} {h : aH} (hl : l.stackTraces = false) (hv : V_J9_checkIndex_0 l G d mc ms P x0 x1 h) : aC l G mJ9_checkIndex (wsN mJ9_checkIndex) d mc ms [.int x0, .int x1] h P := by
  refine aC_ofF (M := mJ9_checkIndex) rfl pJ9_checkIndex (Nat.le_of_ble_eq_true rfl) hl ?_
  refine aw_eqv (lv2 := [(0, .int x0), (1, .int x1)]) rfl rfl rfl rfl ?_
  unfold V_J9_checkIndex_0 at hv
  refine aw_iload_n 0 dJ9_checkIndex_0 rfl rfl ?_
  refine aw_iload_n 1 dJ9_checkIndex_1 rfl rfl ?_
  refine aw_getsF q929 dJ9_checkIndex_2 (fun o1 => ?_)
  have hv := hv o1
  obtain ⟨d2, mc2, ms2, Q, hM, hd9, hc9, hs9, hv, hx⟩ := hv
  refine aw_callS (rest := []) hM nJ16_checkIndex q1236 q490 q143 q491 dJ9_checkIndex_5 rfl hd9 (by decide) (Nat.le_of_ble_eq_true rfl) hc9 hs9 ?_ ?_
  rotate_left
  · exact fun E h2 q => aX_out (hx E h2 q) rfl hc9 hs9
  intro v9 h3 hq
  have hv := hv v9 h3 hq
  obtain ⟨y2, rfl, hv⟩ := hv
  refine aw_eqv (pc2 := 8) (st2 := [.int y2]) rfl rfl rfl rfl ?_
  revert hv hc9 hs9; generalize 0 + mc2 = c4; generalize 0 + ms2 = s5; intro hc9 hs9 hv
  refine aw_pop dJ9_checkIndex_8 rfl ?_
  exact aw_vret rfl dJ9_checkIndex_9 hv hc9 hs9
def V_J7_charAt_0 (l : Launch) (G : aG) (d mc ms : Nat) (P : aR → aH → Prop) (x0 : Nat) (x1 : Int32) (h : aH) : Prop :=
  vI h x0 10 1 fun y1 =>
  vR h x0 10 0 fun a2 =>
  vI h x0 10 3 fun y3 =>
  vLen h a2 fun y4 =>
  vC l G mJ4_min (wsN mJ4_min) d mc ms [.int y3, .int (y4 >>> (y1 &&& 31))] h 0 0 (xP P) (kI fun y5 h6 c7 s8 => 
  vC l G mJ9_checkIndex (wsN mJ9_checkIndex) d mc ms [.int x1, .int y5] h6 c7 s8 (xP P) (kV fun h10 c11 s12 => 
  (¬ y1 = 0 → 
    False
    ) ∧ (y1 = 0 → 
    vA .byte h10 a2 x1 fun y14 =>
    narrow .char (.int (((y14 &&& (255 : Int32)).toUInt32 % 65536).toInt32)) = .int (((y14 &&& (255 : Int32)).toUInt32 % 65536).toInt32) ∧ P (.inl (some (.int (((y14 &&& (255 : Int32)).toUInt32 % 65536).toInt32)))) h10
    )))
set_option maxHeartbeats 4000000 in
theorem A_J7_charAt {l : Launch} {G : aG} {d mc ms : Nat} {P : aR → aH → Prop} {x0 : Nat} {x1 : Int32} {h : aH} (hl : l.stackTraces = false) (hv : V_J7_charAt_0 l G d mc ms P x0 x1 h) : aC l G mJ7_charAt (wsN mJ7_charAt) d mc ms [.ref x0, .int x1] h P := by
  refine aC_ofF (M := mJ7_charAt) rfl pJ7_charAt (Nat.le_of_ble_eq_true rfl) hl ?_
  refine aw_eqv (lv2 := [(0, .ref x0), (1, .int x1)]) rfl rfl rfl rfl ?_
  unfold V_J7_charAt_0 at hv
  refine aw_aload_n 0 (x := x0) dJ7_charAt_0 rfl rfl ?_
  obtain ⟨fs, y1, he, hx, hv⟩ := hv
  refine aw_get (v := .int y1) he rfl in_J8 1 (by decide) q420 (Or.inl rfl) hx dJ7_charAt_1 ?_
  refine aw_istore_n (lv' := [(2, .int y1), (0, .ref x0), (1, .int x1)]) dJ7_charAt_4 rfl (Nat.le_of_ble_eq_true rfl) rfl ?_
  refine aw_aload_n 1 (x := x0) dJ7_charAt_5 rfl rfl ?_
  obtain ⟨fs, a2, he, hx, hv⟩ := hv
  refine aw_get (v := .ref a2) he rfl in_J8 0 (by decide) q419 (Or.inl rfl) hx dJ7_charAt_6 ?_
  refine aw_astore_n (lv' := [(3, .ref a2), (2, .int y1), (0, .ref x0), (1, .int x1)]) dJ7_charAt_9 rfl (Nat.le_of_ble_eq_true rfl) rfl ?_
  refine aw_aload_n 2 (x := x0) dJ7_charAt_10 rfl rfl ?_
  obtain ⟨fs, y3, he, hx, hv⟩ := hv
  refine aw_get (v := .int y3) he rfl in_J8 3 (by decide) q423 (Or.inl rfl) hx dJ7_charAt_11 ?_
  refine aw_aload_n 0 (x := a2) dJ7_charAt_14 rfl rfl ?_
  obtain ⟨x9, j9, he, hj, hv⟩ := hv
  refine aw_alen j9 hj he dJ7_charAt_15 ?_
  revert hv; generalize Int32.ofNat x9.2.1 = y4; intro hv
  refine aw_iload_n 1 dJ7_charAt_16 rfl rfl ?_
  refine aw_ishr dJ7_charAt_17 ?_
  obtain ⟨d2, mc2, ms2, Q, hM, hd9, hc9, hs9, hv, hx⟩ := hv
  refine aw_callS (rest := []) hM nJ4_min q1232 q286 q128 q287 dJ7_charAt_18 rfl hd9 (by decide) (Nat.le_of_ble_eq_true rfl) hc9 hs9 ?_ ?_
  rotate_left
  · exact fun E h2 q => aX_out (hx E h2 q) rfl hc9 hs9
  intro v9 h6 hq
  have hv := hv v9 h6 hq
  obtain ⟨y5, rfl, hv⟩ := hv
  refine aw_eqv (pc2 := 21) (st2 := [.int y5]) rfl rfl rfl rfl ?_
  revert hv hc9 hs9; generalize 0 + mc2 = c7; generalize 0 + ms2 = s8; intro hc9 hs9 hv
  refine aw_istore (lv' := [(4, .int y5), (3, .ref a2), (2, .int y1), (0, .ref x0), (1, .int x1)]) dJ7_charAt_21 (Nat.le_of_ble_eq_true rfl) rfl ?_
  refine aw_iload_n 4 dJ7_charAt_23 rfl rfl ?_
  refine aw_iload 0 dJ7_charAt_24 rfl ?_
  obtain ⟨d2, mc2, ms2, Q, hM, hd9, hc9, hs9, hv, hx⟩ := hv
  refine aw_callS (rest := []) hM nJ9_checkIndex q1233 q1234 q135 q1235 dJ7_charAt_26 rfl hd9 (by decide) (Nat.le_of_ble_eq_true rfl) hc9 hs9 ?_ ?_
  rotate_left
  · exact fun E h2 q => aX_out (hx E h2 q) rfl hc9 hs9
  intro v9 h10 hq
  have hv := hv v9 h10 hq
  obtain ⟨rfl, hv⟩ := hv
  refine aw_eqv (pc2 := 29) (st2 := []) rfl rfl rfl rfl ?_
  revert hv hc9 hs9; generalize c7 + mc2 = c11; generalize s8 + ms2 = s12; intro hc9 hs9 hv
  refine aw_iload_n 2 dJ7_charAt_29 rfl rfl ?_
  refine aw_if_ne 42 dJ7_charAt_30 (by decide) (fun c13 => ?_) (fun c13 => ?_)
  · have hv := hv.1 c13
    refine aw_aload_n 1 (x := a2) dJ7_charAt_42 rfl rfl ?_
    refine aw_iload_n 4 dJ7_charAt_43 rfl rfl ?_
    exact hv.elim
  · have hv := hv.2 c13
    refine aw_aload_n 1 (x := a2) dJ7_charAt_33 rfl rfl ?_
    refine aw_iload_n 4 dJ7_charAt_34 rfl rfl ?_
    obtain ⟨n9, f9, he, hin, hv⟩ := hv
    refine aw_bald he hin dJ7_charAt_35 ?_
    revert hv; generalize f9 (x1).toNatClampNeg = y14; intro hv
    refine aw_sipush (v := 255) dJ7_charAt_36 (by decide) ?_
    refine aw_iand dJ7_charAt_39 ?_
    refine aw_i2c dJ7_charAt_40 ?_
    obtain ⟨z15, hv⟩ := hv
    exact aw_zret rfl z15 dJ7_charAt_41 hv hc9 hs9
def V_J8_charAt_0 (l : Launch) (G : aG) (d mc ms : Nat) (P : aR → aH → Prop) (x0 : Nat) (x1 : Int32) (h : aH) : Prop :=
  vIs h x0 10 (
  vC l G mJ7_charAt (wsN mJ7_charAt) d mc ms [.ref x0, .int x1] h 0 0 (xP P) (kI fun y1 h2 c3 s4 => 
  narrow .char (.int y1) = .int y1 ∧ P (.inl (some (.int y1))) h2))
set_option maxHeartbeats 4000000 in
theorem A_J8_charAt {l : Launch} {G : aG} {d mc ms : Nat} {P : aR → aH → Prop} {x0 : Nat} {x1 : Int32} {h : aH} (hl : l.stackTraces = false) (hv : V_J8_charAt_0 l G d mc ms P x0 x1 h) : aC l G mJ8_charAt (wsN mJ8_charAt) d mc ms [.ref x0, .int x1] h P := by
  refine aC_ofF (M := mJ8_charAt) rfl pJ8_charAt (Nat.le_of_ble_eq_true rfl) hl ?_
  refine aw_eqv (lv2 := [(0, .ref x0), (1, .int x1)]) rfl rfl rfl rfl ?_
  unfold V_J8_charAt_0 at hv
  refine aw_aload_n 0 (x := x0) dJ8_charAt_0 rfl rfl ?_
  refine aw_iload_n 1 dJ8_charAt_1 rfl rfl ?_
  obtain ⟨⟨fs, he⟩, hv⟩ := hv
  obtain ⟨d2, mc2, ms2, Q, hM, hd9, hc9, hs9, hv, hx⟩ := hv
  refine aw_callSU (rest := []) hM he rfl (by decide +kernel : yJ7_charAt.name ≠ "<init>" ∧ (parseMethodDescriptor yJ7_charAt.desc).map (fun d => d.parameters.length) = some 1) q1229 q2308 q432 q1230 q133 q1231 dJ8_charAt_2 rfl hd9 (by decide) (Nat.le_of_ble_eq_true rfl) hc9 hs9 ?_ ?_
  rotate_left
  · exact fun E h2 q => aX_out (hx E h2 q) rfl hc9 hs9
  intro v9 h2 hq
  have hv := hv v9 h2 hq
  obtain ⟨y1, rfl, hv⟩ := hv
  refine aw_eqv (pc2 := 5) (st2 := [.int y1]) rfl rfl rfl rfl ?_
  revert hv hc9 hs9; generalize 0 + mc2 = c3; generalize 0 + ms2 = s4; intro hc9 hs9 hv
  obtain ⟨z5, hv⟩ := hv
  exact aw_zret rfl z5 dJ8_charAt_5 hv hc9 hs9
def V_J7_setLength_0 (l : Launch) (G : aG) (d mc ms : Nat) (P : aR → aH → Prop) (x0 : Nat) (x1 : Int32) (h : aH) : Prop :=
  (0 ≤ x1 → 
    vIs h x0 10 (
    vC l G mJ7_ensureCapacityInternal (wsN mJ7_ensureCapacityInternal) d mc ms [.ref x0, .int x1] h 0 0 (xP P) (kV fun h3 c4 s5 => 
    vI h3 x0 10 3 fun y6 =>
    (x1 ≤ y6 → 
      vI h3 x0 10 3 fun y8 =>
      (y8 ≤ x1 → 
        vPut h3 x0 10 3 (.int x1) fun h10 =>
        P (.inl none) h10
        ) ∧ (¬ y8 ≤ x1 → 
        vPut h3 x0 10 2 (.int 1) fun h11 =>
        vPut h11 x0 10 3 (.int x1) fun h12 =>
        P (.inl none) h12
        )
      ) ∧ (¬ x1 ≤ y6 → 
      vIs h3 x0 10 (
      vC l G mJ7_isLatin1 (wsN mJ7_isLatin1) d mc ms [.ref x0] h3 c4 s5 (xP P) (kI fun y13 h14 c15 s16 => 
      (y13 = 0 → 
        vR h14 x0 10 0 fun a18 =>
        vI h14 x0 10 3 fun y19 =>
        False
        ) ∧ (¬ y13 = 0 → 
        vR h14 x0 10 0 fun a20 =>
        vI h14 x0 10 3 fun y21 =>
        False
        )))
      )))
    ) ∧ (¬ 0 ≤ x1 → 
    False
    )
set_option maxHeartbeats 4000000 in
theorem A_J7_setLength {l : Launch} {G : aG} {d mc ms : Nat} {P : aR → aH → Prop} {x0 : Nat} {x1 : Int32} {h : aH} (hl : l.stackTraces = false) (hv : V_J7_setLength_0 l G d mc ms P x0 x1 h) : aC l G mJ7_setLength (wsN mJ7_setLength) d mc ms [.ref x0, .int x1] h P := by
  refine aC_ofF (M := mJ7_setLength) rfl pJ7_setLength (Nat.le_of_ble_eq_true rfl) hl ?_
  refine aw_eqv (lv2 := [(0, .ref x0), (1, .int x1)]) rfl rfl rfl rfl ?_
  unfold V_J7_setLength_0 at hv
  refine aw_iload_n 1 dJ7_setLength_0 rfl rfl ?_
  refine aw_if_ge 13 dJ7_setLength_1 (by decide) (fun c1 => ?_) (fun c1 => ?_)
  · have hv := hv.1 c1
    refine aw_aload_n 0 (x := x0) dJ7_setLength_13 rfl rfl ?_
    refine aw_iload_n 1 dJ7_setLength_14 rfl rfl ?_
    obtain ⟨⟨fs, he⟩, hv⟩ := hv
    obtain ⟨d2, mc2, ms2, Q, hM, hd9, hc9, hs9, hv, hx⟩ := hv
    refine aw_callP (rest := []) (z := ⟨"java/lang/AbstractStringBuilder", "isLatin1", "()Z"⟩) hM he rfl nJ7_ensureCapacityInternal q892 rfl q915 q893 q894 q133 q895 dJ7_setLength_15 rfl hd9 (by decide) (Nat.le_of_ble_eq_true rfl) hc9 hs9 ?_ ?_
    rotate_left
    · exact fun E h2 q => aX_out (hx E h2 q) rfl hc9 hs9
    intro v9 h3 hq
    have hv := hv v9 h3 hq
    obtain ⟨rfl, hv⟩ := hv
    refine aw_eqv (pc2 := 18) (st2 := []) rfl rfl rfl rfl ?_
    revert hv hc9 hs9; generalize 0 + mc2 = c4; generalize 0 + ms2 = s5; intro hc9 hs9 hv
    refine aw_aload_n 0 (x := x0) dJ7_setLength_18 rfl rfl ?_
    obtain ⟨fs, y6, he, hx, hv⟩ := hv
    refine aw_get (v := .int y6) he rfl in_J8 3 (by decide) q423 (Or.inl rfl) hx dJ7_setLength_19 ?_
    refine aw_iload_n 1 dJ7_setLength_22 rfl rfl ?_
    refine aw_icmp_ge 63 dJ7_setLength_23 (by decide) (fun c7 => ?_) (fun c7 => ?_)
    · have hv := hv.1 c7
      refine aw_aload_n 0 (x := x0) dJ7_setLength_63 rfl rfl ?_
      obtain ⟨fs, y8, he, hx, hv⟩ := hv
      refine aw_get (v := .int y8) he rfl in_J8 3 (by decide) q423 (Or.inl rfl) hx dJ7_setLength_64 ?_
      refine aw_iload_n 1 dJ7_setLength_67 rfl rfl ?_
      refine aw_icmp_le 76 dJ7_setLength_68 (by decide) (fun c9 => ?_) (fun c9 => ?_)
      · have hv := hv.1 c9
        refine aw_aload_n 0 (x := x0) dJ7_setLength_76 rfl rfl ?_
        refine aw_iload_n 1 dJ7_setLength_77 rfl rfl ?_
        obtain ⟨fs, he, hk9, hv⟩ := hv
        refine aw_put he rfl in_J8 tyJ8_ok nmJ8 3 (by decide) q423 (Or.inl rfl) rfl rfl rfl hk9 rfl dJ7_setLength_78 ?_
        revert hv; generalize aUp h3 x0 (.inr (10, fs.set 3 (.int x1))) = h10; intro hv
        exact aw_vret rfl dJ7_setLength_81 hv hc9 hs9
      · have hv := hv.2 c9
        refine aw_aload_n 0 (x := x0) dJ7_setLength_71 rfl rfl ?_
        refine aw_iconst (v := 1) dJ7_setLength_72 (by decide) ?_
        obtain ⟨fs, he, hk9, hv⟩ := hv
        refine aw_put he rfl in_J8 tyJ8_ok nmJ8 2 (by decide) q421 (Or.inl rfl) rfl rfl rfl hk9 rfl dJ7_setLength_73 ?_
        revert hv; generalize aUp h3 x0 (.inr (10, fs.set 2 (.int 1))) = h11; intro hv
        refine aw_aload_n 0 (x := x0) dJ7_setLength_76 rfl rfl ?_
        refine aw_iload_n 1 dJ7_setLength_77 rfl rfl ?_
        obtain ⟨fs, he, hk9, hv⟩ := hv
        refine aw_put he rfl in_J8 tyJ8_ok nmJ8 3 (by decide) q423 (Or.inl rfl) rfl rfl rfl hk9 rfl dJ7_setLength_78 ?_
        revert hv; generalize aUp h11 x0 (.inr (10, fs.set 3 (.int x1))) = h12; intro hv
        exact aw_vret rfl dJ7_setLength_81 hv hc9 hs9
    · have hv := hv.2 c7
      refine aw_aload_n 0 (x := x0) dJ7_setLength_26 rfl rfl ?_
      obtain ⟨⟨fs, he⟩, hv⟩ := hv
      obtain ⟨d2, mc2, ms2, Q, hM, hd9, hc9, hs9, hv, hx⟩ := hv
      refine aw_callU (rest := []) hM he rfl nJ7_isLatin1 q912 q914 q915 q913 q133 q916 dJ7_setLength_27 rfl hd9 (by decide) (Nat.le_of_ble_eq_true rfl) hc9 hs9 ?_ ?_
      rotate_left
      · exact fun E h2 q => aX_out (hx E h2 q) rfl hc9 hs9
      intro v9 h14 hq
      have hv := hv v9 h14 hq
      obtain ⟨y13, rfl, hv⟩ := hv
      refine aw_eqv (pc2 := 30) (st2 := [.int y13]) rfl rfl rfl rfl ?_
      revert hv hc9 hs9; generalize c4 + mc2 = c15; generalize s5 + ms2 = s16; intro hc9 hs9 hv
      refine aw_if_eq 48 dJ7_setLength_30 (by decide) (fun c17 => ?_) (fun c17 => ?_)
      · have hv := hv.1 c17
        refine aw_aload_n 0 (x := x0) dJ7_setLength_48 rfl rfl ?_
        obtain ⟨fs, a18, he, hx, hv⟩ := hv
        refine aw_get (v := .ref a18) he rfl in_J8 0 (by decide) q419 (Or.inl rfl) hx dJ7_setLength_49 ?_
        refine aw_aload_n 0 (x := x0) dJ7_setLength_52 rfl rfl ?_
        obtain ⟨fs, y19, he, hx, hv⟩ := hv
        refine aw_get (v := .int y19) he rfl in_J8 3 (by decide) q423 (Or.inl rfl) hx dJ7_setLength_53 ?_
        refine aw_iload_n 1 dJ7_setLength_56 rfl rfl ?_
        exact hv.elim
      · have hv := hv.2 c17
        refine aw_aload_n 0 (x := x0) dJ7_setLength_33 rfl rfl ?_
        obtain ⟨fs, a20, he, hx, hv⟩ := hv
        refine aw_get (v := .ref a20) he rfl in_J8 0 (by decide) q419 (Or.inl rfl) hx dJ7_setLength_34 ?_
        refine aw_aload_n 0 (x := x0) dJ7_setLength_37 rfl rfl ?_
        obtain ⟨fs, y21, he, hx, hv⟩ := hv
        refine aw_get (v := .int y21) he rfl in_J8 3 (by decide) q423 (Or.inl rfl) hx dJ7_setLength_38 ?_
        refine aw_iload_n 1 dJ7_setLength_41 rfl rfl ?_
        exact hv.elim
  · have hv := hv.2 c1
    exact hv.elim
def V_J8_setLength_0 (l : Launch) (G : aG) (d mc ms : Nat) (P : aR → aH → Prop) (x0 : Nat) (x1 : Int32) (h : aH) : Prop :=
  vIs h x0 10 (
  vC l G mJ7_setLength (wsN mJ7_setLength) d mc ms [.ref x0, .int x1] h 0 0 (xP P) (kV fun h2 c3 s4 => 
  P (.inl none) h2))
set_option maxHeartbeats 4000000 in
theorem A_J8_setLength {l : Launch} {G : aG} {d mc ms : Nat} {P : aR → aH → Prop} {x0 : Nat} {x1 : Int32} {h : aH} (hl : l.stackTraces = false) (hv : V_J8_setLength_0 l G d mc ms P x0 x1 h) : aC l G mJ8_setLength (wsN mJ8_setLength) d mc ms [.ref x0, .int x1] h P := by
  refine aC_ofF (M := mJ8_setLength) rfl pJ8_setLength (Nat.le_of_ble_eq_true rfl) hl ?_
  refine aw_eqv (lv2 := [(0, .ref x0), (1, .int x1)]) rfl rfl rfl rfl ?_
  unfold V_J8_setLength_0 at hv
  refine aw_aload_n 0 (x := x0) dJ8_setLength_0 rfl rfl ?_
  refine aw_iload_n 1 dJ8_setLength_1 rfl rfl ?_
  obtain ⟨⟨fs, he⟩, hv⟩ := hv
  obtain ⟨d2, mc2, ms2, Q, hM, hd9, hc9, hs9, hv, hx⟩ := hv
  refine aw_callSU (rest := []) hM he rfl (by decide +kernel : yJ7_setLength.name ≠ "<init>" ∧ (parseMethodDescriptor yJ7_setLength.desc).map (fun d => d.parameters.length) = some 1) q870 q2297 q432 q871 q133 q872 dJ8_setLength_2 rfl hd9 (by decide) (Nat.le_of_ble_eq_true rfl) hc9 hs9 ?_ ?_
  rotate_left
  · exact fun E h2 q => aX_out (hx E h2 q) rfl hc9 hs9
  intro v9 h2 hq
  have hv := hv v9 h2 hq
  obtain ⟨rfl, hv⟩ := hv
  refine aw_eqv (pc2 := 5) (st2 := []) rfl rfl rfl rfl ?_
  revert hv hc9 hs9; generalize 0 + mc2 = c3; generalize 0 + ms2 = s4; intro hc9 hs9 hv
  exact aw_vret rfl dJ8_setLength_5 hv hc9 hs9
def V_J9_isLatin1_0 (l : Launch) (G : aG) (d mc ms : Nat) (P : aR → aH → Prop) (h : aH) : Prop :=
  P (.inl (some (.int 1))) h
set_option maxHeartbeats 4000000 in
theorem A_J9_isLatin1 {l : Launch} {G : aG} {d mc ms : Nat} {P : aR → aH → Prop} {h : aH} (hl : l.stackTraces = false) (hv : V_J9_isLatin1_0 l G d mc ms P h) : aC l G mJ9_isLatin1 (wsN mJ9_isLatin1) d mc ms [.ref G.2.1.2.1] h P := by
  refine aC_ofF (M := mJ9_isLatin1) rfl pJ9_isLatin1 (Nat.le_of_ble_eq_true rfl) hl ?_
  refine aw_eqv (lv2 := [(0, .ref G.2.1.2.1)]) rfl rfl rfl rfl ?_
  unfold V_J9_isLatin1_0 at hv
  refine aw_getsC q951 dJ9_isLatin1_0 ?_
  refine aw_if_eq 17 dJ9_isLatin1_3 (by decide) (fun c1 => absurd c1 (by decide)) (fun c1 => ?_)
  refine aw_aload_n 0 (x := G.2.1.2.1) dJ9_isLatin1_6 rfl rfl ?_
  refine aw_getSc q1128 dJ9_isLatin1_7 ?_
  refine aw_if_ne 17 dJ9_isLatin1_10 (by decide) (fun c2 => absurd c2 (by decide)) (fun c2 => ?_)
  refine aw_iconst (v := 1) dJ9_isLatin1_13 (by decide) ?_
  refine aw_goto 18 dJ9_isLatin1_14 (by decide) ?_
  exact aw_zret rfl rfl dJ9_isLatin1_18 hv (Nat.zero_le _) (Nat.zero_le _)
def V_J9_coder_0 (l : Launch) (G : aG) (d mc ms : Nat) (P : aR → aH → Prop) (h : aH) : Prop :=
  P (.inl (some (.int 0))) h
set_option maxHeartbeats 4000000 in
theorem A_J9_coder {l : Launch} {G : aG} {d mc ms : Nat} {P : aR → aH → Prop} {h : aH} (hl : l.stackTraces = false) (hv : V_J9_coder_0 l G d mc ms P h) : aC l G mJ9_coder (wsN mJ9_coder) d mc ms [.ref G.2.1.2.1] h P := by
  refine aC_ofF (M := mJ9_coder) rfl pJ9_coder (Nat.le_of_ble_eq_true rfl) hl ?_
  refine aw_eqv (lv2 := [(0, .ref G.2.1.2.1)]) rfl rfl rfl rfl ?_
  unfold V_J9_coder_0 at hv
  refine aw_getsC q951 dJ9_coder_0 ?_
  refine aw_if_eq 13 dJ9_coder_3 (by decide) (fun c1 => absurd c1 (by decide)) (fun c1 => ?_)
  refine aw_aload_n 0 (x := G.2.1.2.1) dJ9_coder_6 rfl rfl ?_
  refine aw_getSc q1128 dJ9_coder_7 ?_
  refine aw_goto 14 dJ9_coder_10 (by decide) ?_
  exact aw_zret rfl rfl dJ9_coder_14 hv (Nat.zero_le _) (Nat.zero_le _)
def V_J9_length_0 (l : Launch) (G : aG) (d mc ms : Nat) (P : aR → aH → Prop) (h : aH) : Prop :=
  vC l G mJ9_coder (wsN mJ9_coder) d mc ms [.ref G.2.1.2.1] h 0 0 (xP P) (kI fun y1 h2 c3 s4 => 
  P (.inl (some (.int ((4 : Int32) >>> (y1 &&& 31))))) h2)
set_option maxHeartbeats 4000000 in
theorem A_J9_length {l : Launch} {G : aG} {d mc ms : Nat} {P : aR → aH → Prop} {h : aH} (hl : l.stackTraces = false) (hv : V_J9_length_0 l G d mc ms P h) : aC l G mJ9_length (wsN mJ9_length) d mc ms [.ref G.2.1.2.1] h P := by
  refine aC_ofF (M := mJ9_length) rfl pJ9_length (Nat.le_of_ble_eq_true rfl) hl ?_
  refine aw_eqv (lv2 := [(0, .ref G.2.1.2.1)]) rfl rfl rfl rfl ?_
  unfold V_J9_length_0 at hv
  refine aw_aload_n 0 (x := G.2.1.2.1) dJ9_length_0 rfl rfl ?_
  refine aw_getSv q1127 dJ9_length_1 ?_
  refine aw_alenS dJ9_length_4 ?_
  refine aw_aload_n 0 (x := G.2.1.2.1) dJ9_length_5 rfl rfl ?_
  obtain ⟨d2, mc2, ms2, Q, hM, hd9, hc9, hs9, hv, hx⟩ := hv
  refine aw_callT (rest := [.int 4]) hM rfl nJ9_coder q947 q948 q949 q135 q950 dJ9_length_6 rfl hd9 (by decide) (Nat.le_of_ble_eq_true rfl) hc9 hs9 ?_ ?_
  rotate_left
  · exact fun E h2 q => aX_out (hx E h2 q) rfl hc9 hs9
  intro v9 h2 hq
  have hv := hv v9 h2 hq
  obtain ⟨y1, rfl, hv⟩ := hv
  refine aw_eqv (pc2 := 9) (st2 := [.int y1, .int 4]) rfl rfl rfl rfl ?_
  revert hv hc9 hs9; generalize 0 + mc2 = c3; generalize 0 + ms2 = s4; intro hc9 hs9 hv
  refine aw_ishr dJ9_length_9 ?_
  exact aw_iret rfl dJ9_length_10 hv hc9 hs9
def T_J20_indexOfChar_7 (l : Launch) (G : aG) (d mc ms : Nat) (P : aR → aH → Prop) (x3 : Int32) (x4 : Int32) (x5 : Int32) (h : aH) (c s : Nat) : Prop := c ≤ mc → s ≤ ms → AW l G mJ20_indexOfChar d mc ms P 7 [(0, .ref G.2.1.2.2.1), (3, .int x3), (4, .int x4), (5, .int x5)] [] h c s
def V_J20_indexOfChar_7 (l : Launch) (G : aG) (d mc ms : Nat) (P : aR → aH → Prop) (x3 : Int32) (x4 : Int32) (x5 : Int32) (h : aH) (c s : Nat) : Prop :=
  (x3 ≤ x5 → 
    P (.inl (some (.int ((-1))))) h
    ) ∧ (¬ x3 ≤ x5 → 
    vp_in x5 4 ∧
    (¬ (aLit x5.toNatClampNeg) = x4 → 
      T_J20_indexOfChar_7 l G d mc ms P x3 x4 (x5 + 1) h c s
      ) ∧ ((aLit x5.toNatClampNeg) = x4 → 
      P (.inl (some (.int x5))) h
      )
    )
set_option maxHeartbeats 4000000 in
theorem A_J20_indexOfChar_7 {l : Launch} {G : aG} {d mc ms : Nat} {P : aR → aH → Prop} {x3 : Int32} {x4 : Int32} {x5 : Int32} {h : aH} {c s : Nat} (hl : l.stackTraces = false) (hv : V_J20_indexOfChar_7 l G d mc ms P x3 x4 x5 h c s) : T_J20_indexOfChar_7 l G d mc ms P x3 x4 x5 h c s := by
  intro hc hs
  unfold V_J20_indexOfChar_7 at hv
  refine aw_iload 3 dJ20_indexOfChar_7 rfl ?_
  refine aw_iload_n 1 dJ20_indexOfChar_9 rfl rfl ?_
  refine aw_icmp_ge 31 dJ20_indexOfChar_10 (by decide) (fun c1 => ?_) (fun c1 => ?_)
  · have hv := hv.1 c1
    refine aw_iconst (v := (-1)) dJ20_indexOfChar_31 (by decide) ?_
    exact aw_iret rfl dJ20_indexOfChar_32 hv hc hs
  · have hv := hv.2 c1
    refine aw_aload_n 0 (x := G.2.1.2.2.1) dJ20_indexOfChar_13 rfl rfl ?_
    refine aw_iload 3 dJ20_indexOfChar_14 rfl ?_
    obtain ⟨z2, hv⟩ := hv
    refine aw_baldS z2 dJ20_indexOfChar_16 ?_
    refine aw_iload 2 dJ20_indexOfChar_17 rfl ?_
    refine aw_icmp_ne 25 dJ20_indexOfChar_19 (by decide) (fun c3 => ?_) (fun c3 => ?_)
    · have hv := hv.1 c3
      refine aw_iinc 3 (v := x5 + 1) (lv' := [(5, .int (x5 + 1)), (0, .ref G.2.1.2.2.1), (3, .int x3), (4, .int x4)]) dJ20_indexOfChar_25 rfl rfl (Nat.le_of_ble_eq_true rfl) rfl ?_
      refine aw_goto 7 dJ20_indexOfChar_28 (by decide) ?_
      refine aw_sub [1, 2, 3, 0] rfl ?_
      exact hv hc hs
    · have hv := hv.2 c3
      refine aw_iload 3 dJ20_indexOfChar_22 rfl ?_
      exact aw_iret rfl dJ20_indexOfChar_24 hv hc hs
def V_J20_indexOfChar_0 (l : Launch) (G : aG) (d mc ms : Nat) (P : aR → aH → Prop) (x1 : Int32) (x2 : Int32) (x3 : Int32) (h : aH) : Prop :=
  T_J20_indexOfChar_7 l G d mc ms P x3 x1.toInt8.toInt32 x2 h 0 0
set_option maxHeartbeats 4000000 in
theorem A_J20_indexOfChar {l : Launch} {G : aG} {d mc ms : Nat} {P : aR → aH → Prop} {x1 : Int32} {x2 : Int32} {x3 : Int32} {h : aH} (hl : l.stackTraces = false) (hv : V_J20_indexOfChar_0 l G d mc ms P x1 x2 x3 h) : aC l G mJ20_indexOfChar (wsN mJ20_indexOfChar) d mc ms [.ref G.2.1.2.2.1, .int x1, .int x2, .int x3] h P := by
  refine aC_ofF (M := mJ20_indexOfChar) rfl pJ20_indexOfChar (Nat.le_of_ble_eq_true rfl) hl ?_
  refine aw_eqv (lv2 := [(0, .ref G.2.1.2.2.1), (1, .int x1), (2, .int x2), (3, .int x3)]) rfl rfl rfl rfl ?_
  unfold V_J20_indexOfChar_0 at hv
  refine aw_iload_n 1 dJ20_indexOfChar_0 rfl rfl ?_
  refine aw_i2b dJ20_indexOfChar_1 ?_
  refine aw_istore (lv' := [(4, .int x1.toInt8.toInt32), (0, .ref G.2.1.2.2.1), (1, .int x1), (2, .int x2), (3, .int x3)]) dJ20_indexOfChar_2 (Nat.le_of_ble_eq_true rfl) rfl ?_
  refine aw_iload_n 3 dJ20_indexOfChar_4 rfl rfl ?_
  refine aw_istore (lv' := [(5, .int x2), (4, .int x1.toInt8.toInt32), (0, .ref G.2.1.2.2.1), (1, .int x1), (2, .int x2), (3, .int x3)]) dJ20_indexOfChar_5 (Nat.le_of_ble_eq_true rfl) rfl ?_
  refine aw_sub [2, 5, 1, 0] rfl ?_
  exact hv (Nat.zero_le _) (Nat.zero_le _)
def V_J20_indexOf_0 (l : Launch) (G : aG) (d mc ms : Nat) (P : aR → aH → Prop) (x1 : Int32) (x2 : Int32) (x3 : Int32) (h : aH) : Prop :=
  vC l G mJ20_canEncode (wsN mJ20_canEncode) d mc ms [.int x1] h 0 0 (xP P) (kI fun y1 h2 c3 s4 => 
  (¬ y1 = 0 → 
    vC l G mJ4_max (wsN mJ4_max) d mc ms [.int x2, .int 0] h2 c3 s4 (xP P) (kI fun y6 h7 c8 s9 => 
    vC l G mJ4_min (wsN mJ4_min) d mc ms [.int x3, .int 4] h7 c8 s9 (xP P) (kI fun y10 h11 c12 s13 => 
    (y6 < y10 → 
      vC l G mJ20_indexOfChar (wsN mJ20_indexOfChar) d mc ms [.ref G.2.1.2.2.1, .int x1, .int y6, .int y10] h11 c12 s13 (xP P) (kI fun y15 h16 c17 s18 => 
      P (.inl (some (.int y15))) h16)
      ) ∧ (¬ y6 < y10 → 
      P (.inl (some (.int ((-1))))) h11
      )))
    ) ∧ (y1 = 0 → 
    P (.inl (some (.int ((-1))))) h2
    ))
set_option maxHeartbeats 4000000 in
theorem A_J20_indexOf {l : Launch} {G : aG} {d mc ms : Nat} {P : aR → aH → Prop} {x1 : Int32} {x2 : Int32} {x3 : Int32} {h : aH} (hl : l.stackTraces = false) (hv : V_J20_indexOf_0 l G d mc ms P x1 x2 x3 h) : aC l G mJ20_indexOf (wsN mJ20_indexOf) d mc ms [.ref G.2.1.2.2.1, .int x1, .int x2, .int x3] h P := by
  refine aC_ofF (M := mJ20_indexOf) rfl pJ20_indexOf (Nat.le_of_ble_eq_true rfl) hl ?_
  refine aw_eqv (lv2 := [(0, .ref G.2.1.2.2.1), (1, .int x1), (2, .int x2), (3, .int x3)]) rfl rfl rfl rfl ?_
  unfold V_J20_indexOf_0 at hv
  refine aw_iload_n 1 dJ20_indexOf_0 rfl rfl ?_
  obtain ⟨d2, mc2, ms2, Q, hM, hd9, hc9, hs9, hv, hx⟩ := hv
  refine aw_callS (rest := []) hM nJ20_canEncode q1258 q1259 q149 q1260 dJ20_indexOf_1 rfl hd9 (by decide) (Nat.le_of_ble_eq_true rfl) hc9 hs9 ?_ ?_
  rotate_left
  · exact fun E h2 q => aX_out (hx E h2 q) rfl hc9 hs9
  intro v9 h2 hq
  have hv := hv v9 h2 hq
  obtain ⟨y1, rfl, hv⟩ := hv
  refine aw_eqv (pc2 := 4) (st2 := [.int y1]) rfl rfl rfl rfl ?_
  revert hv hc9 hs9; generalize 0 + mc2 = c3; generalize 0 + ms2 = s4; intro hc9 hs9 hv
  refine aw_if_ne 9 dJ20_indexOf_4 (by decide) (fun c5 => ?_) (fun c5 => ?_)
  · have hv := hv.1 c5
    refine aw_iload_n 2 dJ20_indexOf_9 rfl rfl ?_
    refine aw_iconst (v := 0) dJ20_indexOf_10 (by decide) ?_
    obtain ⟨d2, mc2, ms2, Q, hM, hd9, hc9, hs9, hv, hx⟩ := hv
    refine aw_callS (rest := []) hM nJ4_max q1261 q249 q128 q250 dJ20_indexOf_11 rfl hd9 (by decide) (Nat.le_of_ble_eq_true rfl) hc9 hs9 ?_ ?_
    rotate_left
    · exact fun E h2 q => aX_out (hx E h2 q) rfl hc9 hs9
    intro v9 h7 hq
    have hv := hv v9 h7 hq
    obtain ⟨y6, rfl, hv⟩ := hv
    refine aw_eqv (pc2 := 14) (st2 := [.int y6]) rfl rfl rfl rfl ?_
    revert hv hc9 hs9; generalize c3 + mc2 = c8; generalize s4 + ms2 = s9; intro hc9 hs9 hv
    refine aw_istore_n (lv' := [(2, .int y6), (0, .ref G.2.1.2.2.1), (1, .int x1), (3, .int x3)]) dJ20_indexOf_14 rfl (Nat.le_of_ble_eq_true rfl) rfl ?_
    refine aw_iload_n 3 dJ20_indexOf_15 rfl rfl ?_
    refine aw_aload_n 1 (x := G.2.1.2.2.1) dJ20_indexOf_16 rfl rfl ?_
    refine aw_alenS dJ20_indexOf_17 ?_
    obtain ⟨d2, mc2, ms2, Q, hM, hd9, hc9, hs9, hv, hx⟩ := hv
    refine aw_callS (rest := []) hM nJ4_min q1262 q286 q128 q287 dJ20_indexOf_18 rfl hd9 (by decide) (Nat.le_of_ble_eq_true rfl) hc9 hs9 ?_ ?_
    rotate_left
    · exact fun E h2 q => aX_out (hx E h2 q) rfl hc9 hs9
    intro v9 h11 hq
    have hv := hv v9 h11 hq
    obtain ⟨y10, rfl, hv⟩ := hv
    refine aw_eqv (pc2 := 21) (st2 := [.int y10]) rfl rfl rfl rfl ?_
    revert hv hc9 hs9; generalize c8 + mc2 = c12; generalize s9 + ms2 = s13; intro hc9 hs9 hv
    refine aw_istore_n (lv' := [(3, .int y10), (2, .int y6), (0, .ref G.2.1.2.2.1), (1, .int x1)]) dJ20_indexOf_21 rfl (Nat.le_of_ble_eq_true rfl) rfl ?_
    refine aw_iload_n 1 dJ20_indexOf_22 rfl rfl ?_
    refine aw_iload_n 0 dJ20_indexOf_23 rfl rfl ?_
    refine aw_icmp_lt 29 dJ20_indexOf_24 (by decide) (fun c14 => ?_) (fun c14 => ?_)
    · have hv := hv.1 c14
      refine aw_aload_n 2 (x := G.2.1.2.2.1) dJ20_indexOf_29 rfl rfl ?_
      refine aw_iload_n 3 dJ20_indexOf_30 rfl rfl ?_
      refine aw_iload_n 1 dJ20_indexOf_31 rfl rfl ?_
      refine aw_iload_n 0 dJ20_indexOf_32 rfl rfl ?_
      obtain ⟨d2, mc2, ms2, Q, hM, hd9, hc9, hs9, hv, hx⟩ := hv
      refine aw_callS (rest := []) hM nJ20_indexOfChar q1263 q1264 q149 q1265 dJ20_indexOf_33 rfl hd9 (by decide) (Nat.le_of_ble_eq_true rfl) hc9 hs9 ?_ ?_
      rotate_left
      · exact fun E h2 q => aX_out (hx E h2 q) rfl hc9 hs9
      intro v9 h16 hq
      have hv := hv v9 h16 hq
      obtain ⟨y15, rfl, hv⟩ := hv
      refine aw_eqv (pc2 := 36) (st2 := [.int y15]) rfl rfl rfl rfl ?_
      revert hv hc9 hs9; generalize c12 + mc2 = c17; generalize s13 + ms2 = s18; intro hc9 hs9 hv
      exact aw_iret rfl dJ20_indexOf_36 hv hc9 hs9
    · have hv := hv.2 c14
      refine aw_iconst (v := (-1)) dJ20_indexOf_27 (by decide) ?_
      exact aw_iret rfl dJ20_indexOf_28 hv hc9 hs9
  · have hv := hv.2 c5
    refine aw_iconst (v := (-1)) dJ20_indexOf_7 (by decide) ?_
    exact aw_iret rfl dJ20_indexOf_8 hv hc9 hs9
def V_J9_indexOf_2_0 (l : Launch) (G : aG) (d mc ms : Nat) (P : aR → aH → Prop) (x1 : Int32) (x2 : Int32) (h : aH) : Prop :=
  vC l G mJ9_isLatin1 (wsN mJ9_isLatin1) d mc ms [.ref G.2.1.2.1] h 0 0 (xP P) (kI fun y1 h2 c3 s4 => 
  (y1 = 0 → 
    vC l G mJ9_length (wsN mJ9_length) d mc ms [.ref G.2.1.2.1] h2 c3 s4 (xP P) (kI fun y6 h7 c8 s9 => 
    False)
    ) ∧ (¬ y1 = 0 → 
    vC l G mJ9_length (wsN mJ9_length) d mc ms [.ref G.2.1.2.1] h2 c3 s4 (xP P) (kI fun y10 h11 c12 s13 => 
    vC l G mJ20_indexOf (wsN mJ20_indexOf) d mc ms [.ref G.2.1.2.2.1, .int x1, .int x2, .int y10] h11 c12 s13 (xP P) (kI fun y14 h15 c16 s17 => 
    P (.inl (some (.int y14))) h15))
    ))
set_option maxHeartbeats 4000000 in
theorem A_J9_indexOf_2 {l : Launch} {G : aG} {d mc ms : Nat} {P : aR → aH → Prop} {x1 : Int32} {x2 : Int32} {h : aH} (hl : l.stackTraces = false) (hv : V_J9_indexOf_2_0 l G d mc ms P x1 x2 h) : aC l G mJ9_indexOf_2 (wsN mJ9_indexOf_2) d mc ms [.ref G.2.1.2.1, .int x1, .int x2] h P := by
  refine aC_ofF (M := mJ9_indexOf_2) rfl pJ9_indexOf_2 (Nat.le_of_ble_eq_true rfl) hl ?_
  refine aw_eqv (lv2 := [(0, .ref G.2.1.2.1), (1, .int x1), (2, .int x2)]) rfl rfl rfl rfl ?_
  unfold V_J9_indexOf_2_0 at hv
  refine aw_aload_n 0 (x := G.2.1.2.1) dJ9_indexOf_2_0 rfl rfl ?_
  obtain ⟨d2, mc2, ms2, Q, hM, hd9, hc9, hs9, hv, hx⟩ := hv
  refine aw_callT (rest := []) hM rfl nJ9_isLatin1 q1250 q1251 q1252 q135 q1253 dJ9_indexOf_2_1 rfl hd9 (by decide) (Nat.le_of_ble_eq_true rfl) hc9 hs9 ?_ ?_
  rotate_left
  · exact fun E h2 q => aX_out (hx E h2 q) rfl hc9 hs9
  intro v9 h2 hq
  have hv := hv v9 h2 hq
  obtain ⟨y1, rfl, hv⟩ := hv
  refine aw_eqv (pc2 := 4) (st2 := [.int y1]) rfl rfl rfl rfl ?_
  revert hv hc9 hs9; generalize 0 + mc2 = c3; generalize 0 + ms2 = s4; intro hc9 hs9 hv
  refine aw_if_eq 23 dJ9_indexOf_2_4 (by decide) (fun c5 => ?_) (fun c5 => ?_)
  · have hv := hv.1 c5
    refine aw_aload_n 0 (x := G.2.1.2.1) dJ9_indexOf_2_23 rfl rfl ?_
    refine aw_getSv q1127 dJ9_indexOf_2_24 ?_
    refine aw_iload_n 1 dJ9_indexOf_2_27 rfl rfl ?_
    refine aw_iload_n 2 dJ9_indexOf_2_28 rfl rfl ?_
    refine aw_aload_n 0 (x := G.2.1.2.1) dJ9_indexOf_2_29 rfl rfl ?_
    obtain ⟨d2, mc2, ms2, Q, hM, hd9, hc9, hs9, hv, hx⟩ := hv
    refine aw_callT (rest := [.int x2, .int x1, .ref G.2.1.2.2.1]) hM rfl nJ9_length q1254 q944 q945 q135 q946 dJ9_indexOf_2_30 rfl hd9 (by decide) (Nat.le_of_ble_eq_true rfl) hc9 hs9 ?_ ?_
    rotate_left
    · exact fun E h2 q => aX_out (hx E h2 q) rfl hc9 hs9
    intro v9 h7 hq
    have hv := hv v9 h7 hq
    obtain ⟨y6, rfl, hv⟩ := hv
    refine aw_eqv (pc2 := 33) (st2 := [.int y6, .int x2, .int x1, .ref G.2.1.2.2.1]) rfl rfl rfl rfl ?_
    revert hv hc9 hs9; generalize c3 + mc2 = c8; generalize s4 + ms2 = s9; intro hc9 hs9 hv
    exact hv.elim
  · have hv := hv.2 c5
    refine aw_aload_n 0 (x := G.2.1.2.1) dJ9_indexOf_2_7 rfl rfl ?_
    refine aw_getSv q1127 dJ9_indexOf_2_8 ?_
    refine aw_iload_n 1 dJ9_indexOf_2_11 rfl rfl ?_
    refine aw_iload_n 2 dJ9_indexOf_2_12 rfl rfl ?_
    refine aw_aload_n 0 (x := G.2.1.2.1) dJ9_indexOf_2_13 rfl rfl ?_
    obtain ⟨d2, mc2, ms2, Q, hM, hd9, hc9, hs9, hv, hx⟩ := hv
    refine aw_callT (rest := [.int x2, .int x1, .ref G.2.1.2.2.1]) hM rfl nJ9_length q1254 q944 q945 q135 q946 dJ9_indexOf_2_14 rfl hd9 (by decide) (Nat.le_of_ble_eq_true rfl) hc9 hs9 ?_ ?_
    rotate_left
    · exact fun E h2 q => aX_out (hx E h2 q) rfl hc9 hs9
    intro v9 h11 hq
    have hv := hv v9 h11 hq
    obtain ⟨y10, rfl, hv⟩ := hv
    refine aw_eqv (pc2 := 17) (st2 := [.int y10, .int x2, .int x1, .ref G.2.1.2.2.1]) rfl rfl rfl rfl ?_
    revert hv hc9 hs9; generalize c3 + mc2 = c12; generalize s4 + ms2 = s13; intro hc9 hs9 hv
    obtain ⟨d2, mc2, ms2, Q, hM, hd9, hc9, hs9, hv, hx⟩ := hv
    refine aw_callS (rest := []) hM nJ20_indexOf q1255 q1256 q149 q1257 dJ9_indexOf_2_17 rfl hd9 (by decide) (Nat.le_of_ble_eq_true rfl) hc9 hs9 ?_ ?_
    rotate_left
    · exact fun E h2 q => aX_out (hx E h2 q) rfl hc9 hs9
    intro v9 h15 hq
    have hv := hv v9 h15 hq
    obtain ⟨y14, rfl, hv⟩ := hv
    refine aw_eqv (pc2 := 20) (st2 := [.int y14]) rfl rfl rfl rfl ?_
    revert hv hc9 hs9; generalize c12 + mc2 = c16; generalize s13 + ms2 = s17; intro hc9 hs9 hv
    refine aw_goto 36 dJ9_indexOf_2_20 (by decide) ?_
    exact aw_iret rfl dJ9_indexOf_2_36 hv hc9 hs9
def V_J9_indexOf_0 (l : Launch) (G : aG) (d mc ms : Nat) (P : aR → aH → Prop) (x1 : Int32) (h : aH) : Prop :=
  vC l G mJ9_indexOf_2 (wsN mJ9_indexOf_2) d mc ms [.ref G.2.1.2.1, .int x1, .int 0] h 0 0 (xP P) (kI fun y1 h2 c3 s4 => 
  P (.inl (some (.int y1))) h2)
set_option maxHeartbeats 4000000 in
theorem A_J9_indexOf {l : Launch} {G : aG} {d mc ms : Nat} {P : aR → aH → Prop} {x1 : Int32} {h : aH} (hl : l.stackTraces = false) (hv : V_J9_indexOf_0 l G d mc ms P x1 h) : aC l G mJ9_indexOf (wsN mJ9_indexOf) d mc ms [.ref G.2.1.2.1, .int x1] h P := by
  refine aC_ofF (M := mJ9_indexOf) rfl pJ9_indexOf (Nat.le_of_ble_eq_true rfl) hl ?_
  refine aw_eqv (lv2 := [(0, .ref G.2.1.2.1), (1, .int x1)]) rfl rfl rfl rfl ?_
  unfold V_J9_indexOf_0 at hv
  refine aw_aload_n 0 (x := G.2.1.2.1) dJ9_indexOf_0 rfl rfl ?_
  refine aw_iload_n 1 dJ9_indexOf_1 rfl rfl ?_
  refine aw_iconst (v := 0) dJ9_indexOf_2 (by decide) ?_
  obtain ⟨d2, mc2, ms2, Q, hM, hd9, hc9, hs9, hv, hx⟩ := hv
  refine aw_callT (rest := []) hM rfl nJ9_indexOf_2 q1246 q1247 q1248 q135 q1249 dJ9_indexOf_3 rfl hd9 (by decide) (Nat.le_of_ble_eq_true rfl) hc9 hs9 ?_ ?_
  rotate_left
  · exact fun E h2 q => aX_out (hx E h2 q) rfl hc9 hs9
  intro v9 h2 hq
  have hv := hv v9 h2 hq
  obtain ⟨y1, rfl, hv⟩ := hv
  refine aw_eqv (pc2 := 6) (st2 := [.int y1]) rfl rfl rfl rfl ?_
  revert hv hc9 hs9; generalize 0 + mc2 = c3; generalize 0 + ms2 = s4; intro hc9 hs9 hv
  exact aw_iret rfl dJ9_indexOf_6 hv hc9 hs9
