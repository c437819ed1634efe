/-! a text run; the component's beginning
-/
set_option maxRecDepth 100000
section XN
variable {Z : zT} {l : Launch} {G : aG} {h : aH} {x : Nat} {S : ST} {Q : Nat → Prop}
theorem B_succeeds (hl : l.stackTraces = false) (hW : WSQ Z G h x S Q) {a : Nat} {g : Nat → Int32} {c : cmT} (ha : h a = some (aInts .int 4 g)) (he : enc g c) (hc : okc c) : aC l G mX1_succeeds (wsX mX1_succeeds) 12 3 18 [.ref x, .ref a] h (aPR fun v h' => v = some (.int (bI (okX (execF S c).1))) ∧ WSQ Z G h' x (execF S c).2 Q ∧ kp (fun q => ¬ Q q) h h') := by
  have hx : ∃ fs, h x = some (.inr (1, fs)) := by obtain ⟨I, tg, li, sl, sb, A, hM, -⟩ := hW; exact ⟨_, hM.obj⟩
  refine A_X1_succeeds hl ⟨hx, vC_oQ (B_execute hl hW ha he hc) (by decide) (by decide) (by decide) (fun v h' e hh => ?_) (fun E h' e hh => ?_)⟩
  · obtain ⟨-, h2, h3⟩ := hh
    obtain ⟨y, rfl⟩ : ∃ y : Int32, v = some (.int y) := by
      unfold execF at e
      split at e
      · exact untellF_int e
      · split at e
        · exact settleF_int e
        · split at e
          · exact tellF_int e
          · exact strikeF_int e
    refine ⟨y, rfl, ?_, h2, h3⟩
    rw [e]; rfl
  · obtain ⟨-, h2, h3⟩ := hh
    obtain ⟨e1, e2⟩ := exec_ex e
    have fin : ∀ q c2 s2, T_X1_succeeds_8 l G 12 3 18 (aPR fun v h' => v = some (.int (bI (okX (execF S c).1))) ∧ WSQ Z G h' x (execF S c).2 Q ∧ kp (fun q => ¬ Q q) h h') q h' c2 s2 := fun q c2 s2 => A_X1_succeeds_8 hl ⟨by rw [e]; rfl, h2, h3⟩
    rcases e2 with rfl | rfl | rfl
    · exact Or.inl ⟨rfl, fun q => fin q _ _⟩
    · exact Or.inr (Or.inl ⟨rfl, fun q => fin q _ _⟩)
    · exact Or.inr (Or.inr ⟨rfl, fun q => fin q _ _⟩)
theorem runC_app {c : cmT} {cs : List cmT} {S : ST} {k : Nat} : runC (c :: cs) S k = if okX (execF S c).1 then runC cs (execF S c).2 (k + 1) else (k, S) := rfl
theorem B_runText (hl : l.stackTraces = false) (hW : WS Z G h x S) : aC l G mX1_runText (wsN mX1_runText) 50 2000 150000 [.ref x] h (opP Z G x (runF S)) := by
  refine A_X1_runText hl ⟨by decide, by decide, fun r hr _ => ?_⟩
  refine vC_r (B_init9 hl hr hW.tx) (by decide) (by decide) (by decide) fun v h1 hR => ?_
  obtain ⟨rfl, li, pos, fl, as, eo, cs, hR, hp, hA, hB⟩ := hR
  have hW1 := hW.grow hR.1
  have ho := hR.2.2.1
  refine ⟨rfl, vI_mk ho rfl ?_⟩
  have e1 : (if bI fl = 0 then (1 : Int32) else 0) = bI (!fl) := by cases fl <;> rfl
  rw [e1]
  refine vC_c (B_checkState hl) (by decide) (by decide) (by decide) (fun q => ⟨rfl, ?_⟩) (fun q => ?_)
  · have q' : fl = false := by simpa using q
    subst q'
    have hA := hA rfl
    have hok := pAllF_ok 100 0 hA
    have eF : runF S = (vi (runC cs (S.1, recL S.2.1 S.1, S.2.2.1, []) 0).1, (runC cs (S.1, recL S.2.1 S.1, S.2.2.1, []) 0).2) := by unfold runF; rw [hA]
    rw [eF]
    obtain ⟨k01, ⟨n1, n2, n3, n4⟩, -, ⟨hL, hlen, hc⟩, -⟩ := hR
    -- the reader's things are kept apart
    obtain ⟨Q, hQd⟩ : ∃ Q : Nat → Prop, Q = fun q => q = r ∨ q = li ∨ eo = some q ∨ q ∈ as := ⟨_, rfl⟩
    have hQ0 : ∀ q, Q q → h q = none := fun q hq => by
      rw [hQd] at hq
      rcases hq with rfl | rfl | e | e
      · exact n1
      · exact n2
      · exact n3 q e
      · exact n4 q e
    have hL0 := hL
    obtain ⟨⟨mo, lo⟩, hl200, hob, hnil, hel⟩ := hL
    have hQ1 : ∀ q, Q q → h1 q ≠ none := fun q hq => by
      rw [hQd] at hq
      rcases hq with rfl | rfl | e | e
      · rw [ho]; simp
      · rw [lo]; simp
      · obtain ⟨cap, f, w, -⟩ := hel q e; rw [w]; simp
      · rcases hob q e with ⟨n, f, w⟩ | ⟨fs, w⟩ <;> rw [w] <;> simp
    have hWQ : WSQ Z G h1 x S Q := by
      obtain ⟨I, tg, li', sl, sb, A, hM, hH, hLs, hT⟩ := hW
      obtain ⟨tg', to, tn, a, b, c, d⟩ := W4_tag hM hH hLs hT 13 k01
      exact ⟨I, tg', li', sl, sb, A, a, b, c, d, fun q hq => ⟨tn q (hQ0 q hq), hQ1 q hq⟩⟩
    have hx1 : ∃ fs, h1 x = some (.inr (1, fs)) := by obtain ⟨I, tg, li, sl, sb, A, hM, -⟩ := hW1; exact ⟨_, hM.obj⟩
    refine ⟨hx1, vC_r (B_recordQ hl hWQ) (by decide) (by decide) (by decide) fun v h2 hR2 => ?_⟩
    obtain ⟨rfl, hW2, k2⟩ := hR2
    obtain ⟨I2, tg2, li2, sl2, sb2, A2, hM2, hH2, hLs2, ⟨h11, va2, h12, hV2, hlen2, hc2⟩, hQ2⟩ := hW2
    have hV20 := hV2
    obtain ⟨cap2, f2, mk2, o21, o22, -⟩ := hV2
    refine ⟨rfl, vR_mk hM2.obj rfl ⟨⟨_, o21⟩, vC_r (B_setLen0 hl hV20) (by decide) (by decide) (by decide) fun v h3 hR3 => ?_⟩⟩
    obtain ⟨rfl, k3, hV3⟩ := hR3
    obtain ⟨hW3, k3'⟩ := WSQ_text (S := (S.1, recL S.2.1 S.1, S.2.2.1, S.2.2.2)) hM2 hH2 hLs2 h11 h12 hV20 hQ2 (k3.mono fun q z => Or.inl z) (Or.inl rfl) hV3 (Nat.zero_le _) (fun c hc => by cases hc)
    have k13 : kp (fun q => ¬ Q q) h1 h3 := k2.tr k3'
    refine ⟨rfl, ?_⟩
    -- one command after the other
    have loop := vloop (N := as.length) (T := fun k => ∀ (h4 : aH) (Sk : ST) (c s : Nat), c ≤ 1000 + 3 * k → s ≤ 100000 + 18 * k → kp (fun q => ¬ Q q) h1 h4 → WSQ Z G h4 x Sk Q → runC (cs.drop k) Sk k = runC cs (S.1, recL S.2.1 S.1, S.2.2.1, []) 0 → T_X1_runText_39 l G 50 2000 150000 (opP Z G x (vi (runC cs (S.1, recL S.2.1 S.1, S.2.2.1, []) 0).1, (runC cs (S.1, recL S.2.1 S.1, S.2.2.1, []) 0).2)) x r (i3 k) h4 c s) ?_ ?_ 0 (Nat.zero_le _)
    · exact loop h3 _ _ _ (by decide) (by decide) k13 hW3 rfl
    · intro h4 Sk c s hcb hsb k4 hW4 hrun
      have ho4 := k4 _ _ ho (fun z => z (by rw [hQd]; exact Or.inl rfl))
      have lo4 := k4 _ _ lo (fun z => z (by rw [hQd]; exact Or.inr (Or.inl rfl)))
      have hsz : aC l G mJ2_size (wsN mJ2_size) 0 0 0 [.ref li] h4 (aP1 (some (.int (i3 as.length))) h4) := A_J2_size hl (vI_mk lo4 rfl ⟨rfl, rfl⟩)
      refine A_X1_runText_39 hl (vR_mk ho4 rfl ⟨⟨_, lo4⟩, vC_p hsz (by decide) (by omega) (by omega) ⟨_, rfl, fun _ => ?_, fun z => absurd (by show i3 as.length ≤ i3 as.length; rw [i3_le (by omega) (by omega)]; exact Nat.le_refl _) z⟩⟩)
      rw [hlen, List.drop_length] at hrun
      rw [← hrun, hlen]
      exact ⟨rfl, hW4.ws⟩
    · intro k hk ih h4 Sk c s hcb hsb k4 hW4 hrun
      have ho4 := k4 _ _ ho (fun z => z (by rw [hQd]; exact Or.inl rfl))
      have lo4 := k4 _ _ lo (fun z => z (by rw [hQd]; exact Or.inr (Or.inl rfl)))
      have hsz : aC l G mJ2_size (wsN mJ2_size) 0 0 0 [.ref li] h4 (aP1 (some (.int (i3 as.length))) h4) := A_J2_size hl (vI_mk lo4 rfl ⟨rfl, rfl⟩)
      obtain ⟨e, he⟩ : ∃ e, eo = some e := by
        cases w : eo with
        | none => rw [hnil w] at hk; exact absurd hk (Nat.not_lt_zero _)
        | some e => exact ⟨e, rfl⟩
      obtain ⟨cap, f, w1, w2, w3, w4, w5, w6⟩ := hel e he
      have w14 := k4 _ _ w1 (fun z => z (by rw [hQd]; exact Or.inr (Or.inr (Or.inl he))))
      have hAL : AL h4 li e cap f as.length := ⟨⟨mo, by rw [he] at lo4; exact lo4⟩, w14, w4, by omega⟩
      obtain ⟨g, hg1, hg2⟩ := hc k hk
      have hmem := getD_mem (d := 0) hk
      have hg4 := k4 _ _ hg1 (fun z => z (by rw [hQd]; exact Or.inr (Or.inr (Or.inr hmem))))
      have hx4 : ∃ fs, h4 x = some (.inr (1, fs)) := by obtain ⟨I, tg, li, sl, sb, A, hM, -⟩ := hW4; exact ⟨_, hM.obj⟩
      have hkc : k < cs.length := by omega
      have hokk := hok _ (getD_mem (d := (0, 0, 0, 0)) hkc)
      refine A_X1_runText_39 hl (vR_mk ho4 rfl ⟨⟨_, lo4⟩, vC_p hsz (by decide) (by omega) (by omega) ⟨_, rfl, fun z => absurd (by have z' : i3 as.length ≤ i3 k := z; rwa [i3_le (by omega) (by omega)] at z') (by omega : ¬ as.length ≤ k), fun _ => vR_mk ho4 rfl ⟨⟨_, lo4⟩, ?_⟩⟩⟩)
      refine vC_p (B_get hl hAL hk (w5 k hk)) (by decide) (by omega) (by omega) ⟨_, rfl, ⟨4, g, hg4⟩, hx4, ?_⟩
      refine vC_r (B_succeeds hl hW4 hg4 hg2 hokk) (by decide) (by omega) (by omega) fun v5 h5 hR5 => ?_
      obtain ⟨rfl, hW5, k5⟩ := hR5
      have hdrop : cs.drop k = cs.getD k (0, 0, 0, 0) :: cs.drop (k + 1) := by
        rw [List.drop_eq_getElem_cons hkc, List.getD_eq_getElem?_getD, List.getElem?_eq_getElem hkc]; rfl
      rw [hdrop, runC_app] at hrun
      refine ⟨_, rfl, fun z => ?_, fun z => ?_⟩
      · rw [bI_eq0] at z
        rw [if_neg (by rw [z]; decide)] at hrun
        have hex : (execF Sk (cs.getD k (0, 0, 0, 0))).2 = Sk := by
          cases w : (execF Sk (cs.getD k (0, 0, 0, 0))).1 with
          | inl v => rw [w] at z; cases z
          | inr E => exact (exec_ex w).1
        rw [hex] at hW5
        rw [← hrun]
        exact ⟨rfl, hW5.ws⟩
      · rw [bI_eq0] at z
        have z' : okX (execF Sk (cs.getD k (0, 0, 0, 0))).1 = true := by
          cases w : okX (execF Sk (cs.getD k (0, 0, 0, 0))).1 with
          | true => rfl
          | false => exact absurd w z
        rw [if_pos z'] at hrun
        rw [i3_succ]
        exact ih h5 _ _ _ (by omega) (by omega) (k4.tr k5) hW5 hrun
  · have q' : fl = true := by simpa using q
    have hB := hB q'
    have eF : runF S = (.inr exS, S) := by unfold runF; rw [hB]
    rw [eF]
    exact ⟨rfl, hW1⟩
end XN
