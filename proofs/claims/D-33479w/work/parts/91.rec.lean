/-! a state is recorded
-/
set_option maxRecDepth 100000
def recL (hist : List stT) (s : stT) : List stT := (if hist.length = 6 then hist.tail else hist) ++ [s]
theorem WM.dk {Z : zT} {I : Nat → Prop} {h : aH} {tg : Nat → Nat} {x li sl sb : Nat} {A : adT} {p : Pz} {w : Nat → Nat} (hM : WM Z I h tg x li sl sb A p w) : ∃ FD, DK I h A.1.1 FD p w ∧ ∀ q ∈ FD, tg q = 3 ∨ tg q = 4 ∨ tg q = 5 := by
  obtain ⟨⟨hI, hZ⟩, ⟨x1, x2⟩, ⟨d1, d2⟩, F, FB, FT, FU, ⟨hP, tF⟩, ⟨⟨f, hB, hf⟩, tB, nB⟩, -⟩ := hM
  have hNF : F.Nodup := by obtain ⟨_, _, _, _, _, _, _, _, _, _, _, _, hN, _⟩ := hP; exact hN
  have htag : ∀ q ∈ A.1.1 :: (F ++ FB), tg q = 3 ∨ tg q = 4 ∨ tg q = 5 := fun q hq => by
    rcases List.mem_cons.mp hq with rfl | hq
    · exact Or.inl d1
    · rcases List.mem_append.mp hq with hq | hq
      · exact Or.inr (Or.inl (tF q hq))
      · exact Or.inr (Or.inr (tB q hq))
  refine ⟨A.1.1 :: (F ++ FB), ⟨_, _, _, F, FB, f, rfl, ?_, fun q hq z => ?_, d2, hP, hB, hf⟩, htag⟩
  · rw [List.nodup_cons, List.nodup_append]
    refine ⟨fun z => ?_, hNF, nB, fun y hy z hz e => ?_⟩
    · rcases List.mem_append.mp z with z | z
      · have := tF _ z; omega
      · have := tB _ z; omega
    · subst e
      have := tF _ hy
      have := tB _ hz
      omega
  · have := htag q hq
    have := (hI q z).2
    omega
theorem le_sum {k : Nat} : ∀ {L : List Nat}, k ∈ L → k ≤ L.sum := by
  intro L
  induction L with
  | nil => intro h; cases h
  | cons y L ih =>
    intro h
    rw [List.sum_cons]
    rcases List.mem_cons.mp h with rfl | h
    · omega
    · have := ih h; omega
section REC
variable {Z : zT} {l : Launch} {G : aG} {I : Nat → Prop} {h : aH} {tg : Nat → Nat} {x li sl sb : Nat} {A : adT} {p : Pz} {w : Nat → Nat} {hist : List stT} {slots : Nat → Option stT} {text : List Nat} {Q : Nat → Prop}
theorem WH.obj (hH : WH G I h tg li hist) : ∃ fs, h li = some (.inr (9, fs)) := by
  obtain ⟨-, hs, eo, ⟨⟨mo, lo⟩, -⟩, -⟩ := hH
  exact ⟨_, lo⟩
theorem B_hsize (hl : l.stackTraces = false) (hH : WH G I h tg li hist) : aC l G mJ2_size (wsN mJ2_size) 0 0 0 [.ref li] h (aP1 (some (.int (i3 hist.length))) h) := by
  obtain ⟨-, hs, eo, ⟨⟨mo, lo⟩, -⟩, -, hlen, -⟩ := hH
  refine A_J2_size hl (vI_mk lo rfl ⟨?_, rfl⟩)
  rw [List.length_map, hlen]
/-- a copy of the desk at the list's end -/
theorem rec_add (hl : l.stackTraces = false) {d mc ms c s : Nat} {X : aR → aH → Prop} (hM : WM Z I h tg x li sl sb A p w) (hH : WH G I h tg li hist) (hL : WL I h tg sl slots) (hT : WT h tg sb text) (hQ : ∀ q, Q q → tg q = 13 ∧ h q ≠ none) (h6 : hist.length < 6) (hd : 19 ≤ d) (hc : c + 512 ≤ mc) (hs : s + 49607 ≤ ms) (hX : ∀ h', WSQ Z G h' x ((p, w), hist ++ [(p, w)], slots, text) Q → kp (fun q => ¬ Q q) h h' → X (.inl none) h') :
    vR h x 1 5 fun a8 => vR h x 1 0 fun a9 => vIs h a9 2 (vC l G mX2_copy (wsN mX2_copy) d mc ms [.ref a9] h c s (xP X) (kR fun a10 h11 c12 s13 => vIs h11 a8 9 (vC l G mJ2_add (wsN mJ2_add) d mc ms [.ref a8, .ref a10] h11 c12 s13 (xP X) (kI fun _ h15 _ _ => X (.inl none) h15)))) := by
  have hx := hM.obj
  have hIt := hM.I1
  have hI0 := hM.I0
  obtain ⟨FD, hD, htD⟩ := hM.dk
  have hdo := hM.2.2.1.2
  refine vR_mk hx rfl (vR_mk hx rfl ⟨⟨_, hdo⟩, ?_⟩)
  refine vC_r (B_copy2 hl hD hI0) (by omega) (by omega) (by omega) fun v h1 hR => ?_
  obtain ⟨d', rfl, hd', I1, FD', ext1, i1, k1, hF1, hD1⟩ := hR
  have hH0 := hH
  obtain ⟨t8, hsL, eo, hLs, t9, hlen, hl6, hN, h20, hDs⟩ := hH
  obtain ⟨k, hk⟩ : ∃ k, k = 20 + (hsL.map (·.2.2)).sum + 1 := ⟨_, rfl⟩
  have hkn : ∀ y ∈ hsL.map (·.2.2), y ≠ k := fun y hy e => by have := le_sum hy; omega
  have hF1n : ∀ q ∈ FD', ¬ I1 q := by obtain ⟨_, _, _, _, _, _, _, _, hn, _⟩ := hD1; exact hn
  obtain ⟨tg1, htg1⟩ : ∃ tg1 : Nat → Nat, tg1 = fun q => @ite _ (h q ≠ none) (Classical.propDecidable _) (tg q) (@ite _ (q ∈ FD') (Classical.propDecidable _) k 1) := ⟨_, rfl⟩
  have tgo : ∀ q, h q ≠ none → tg1 q = tg q := fun q hq => by rw [htg1]; exact if_pos hq
  have tgn : ∀ q ∈ FD', tg1 q = k := fun q hq => by
    rw [htg1]
    show @ite _ (h q ≠ none) (Classical.propDecidable _) (tg q) _ = k
    rw [if_neg (by rw [hF1 q hq]; exact fun z => z rfl), if_pos hq]
  have st1 : stp (fun _ => False) I I1 h h1 tg tg1 := by
    refine ⟨k1, ext1.1, fun q hq => ⟨i1 q hq, ?_⟩, tgo⟩
    rcases ext1.2 q hq with z | z
    · rw [tgo q (hI0 q z)]; exact hIt q z
    · rw [htg1]
      show @ite _ (h q ≠ none) (Classical.propDecidable _) (tg q) _ = 1
      rw [if_neg (by rw [z]; exact fun y => y rfl), if_neg (fun y => hF1n q y hq)]
  have hM1 := hM.keep st1 (fun q z => False.elim z)
  have hH1 := hH0.keep st1 hIt (fun q z => False.elim z)
  have hL1 := hL.keep st1 hIt (fun q z => False.elim z)
  have hT1 := hT.keep st1 (fun q z => False.elim z)
  have hLs1 : LST G h1 li (hsL.map (·.1)) eo := hLs.kp k1 id (fun _ _ => id) (fun _ _ => id)
  have hI1t := hM1.I1
  have hli1 : tg1 li = 8 := hH1.1
  have heo1 : ∀ e, eo = some e → tg1 e = 9 := by
    intro e he
    obtain ⟨-, -, -, -, hsome⟩ := hLs
    obtain ⟨cap, f, w1, -⟩ := hsome e he
    rw [tgo e (by rw [w1]; simp)]; exact t9 e he
  have hDm : ∀ y ∈ hsL, tg1 y.1 = y.2.2 ∧ 20 ≤ y.2.2 := by
    intro y hy
    obtain ⟨i, hi, e⟩ := List.mem_iff_getElem.mp hy
    obtain ⟨d1, d2⟩ := hDs i hi
    rw [List.getD_eq_getElem?_getD, List.getElem?_eq_getElem hi, Option.getD_some, e] at d1 d2
    have hmem : y.1 ∈ y.2.1 := by obtain ⟨_, _, _, _, _, _, eF, _⟩ := d1; rw [eF]; simp
    exact ⟨by rw [tgo _ (DK_some d1 _ hmem)]; exact d2 _ hmem, h20 y hy⟩
  have hdm : d' ∈ FD' := by obtain ⟨_, _, _, _, _, _, eF, _⟩ := hD1; rw [eF]; simp
  have htd' := tgn d' hdm
  have hobd : aOb h1 d' := by obtain ⟨_, _, _, _, _, _, _, _, _, ho, _⟩ := hD1; exact Or.inr ⟨_, ho⟩
  refine ⟨d', rfl, hH1.obj, ?_⟩
  refine vC_r (B_add hl hLs1 hobd (by rw [List.length_map]; omega) (fun e => by rw [e] at htd'; omega) (fun e => by have := heo1 d' e; omega) (fun e => by have := heo1 li e; omega) (fun y hy => ?_)) (by omega) (by omega) (by omega) fun v2 h2 hR2 => ?_
  · obtain ⟨y2, hy2, rfl⟩ := List.mem_map.mp hy
    obtain ⟨w1, w2⟩ := hDm y2 hy2
    exact ⟨fun e => by rw [e] at w1; omega, fun e => by have := heo1 _ e; omega⟩
  · obtain ⟨rfl, k2, eo', hLs2, hee⟩ := hR2
    obtain ⟨tg2, htg2⟩ : ∃ tg2 : Nat → Nat, tg2 = fun q => @ite _ (h1 q ≠ none) (Classical.propDecidable _) (tg1 q) 9 := ⟨_, rfl⟩
    have tgo2 : ∀ q, h1 q ≠ none → tg2 q = tg1 q := fun q hq => by rw [htg2]; exact if_pos hq
    have hS2 : ∀ q, (q = li ∨ eo = some q) → tg1 q = 8 ∨ tg1 q = 9 := fun q z => z.elim (fun e => Or.inl (by rw [e]; exact hli1)) (fun e => Or.inr (heo1 q e))
    have st2 : stp (fun q => q = li ∨ eo = some q) I1 I1 h1 h2 tg1 tg2 := by
      refine ⟨k2, fun _ h => h, fun q hq => ⟨?_, by rw [tgo2 q (i1 q hq)]; exact hI1t q hq⟩, tgo2⟩
      cases z : h1 q with
      | none => exact absurd z (i1 q hq)
      | some y => rw [k2 _ _ z (fun e => by have := hS2 q e; have := hI1t q hq; omega)]; simp
    have hQk : ∀ q e, h q = some e → Q q → h2 q = some e := fun q e he hq => by
      refine k2 q e (k1 q e he id) (fun z => ?_)
      have w1 := hS2 q z
      have w2 := (hQ q hq).1
      rw [tgo q (by rw [he]; simp)] at w1
      omega
    have hQ2 : ∀ q, Q q → tg2 q = 13 ∧ h2 q ≠ none := fun q hq => by
      obtain ⟨q1, q2⟩ := hQ q hq
      cases z : h q with
      | none => exact absurd z q2
      | some e =>
        refine ⟨?_, by rw [hQk q e z hq]; simp⟩
        rw [tgo2 q (by rw [k1 q e z id]; simp), tgo q q2]; exact q1
    refine ⟨_, rfl, hX h2 ⟨I1, tg2, li, sl, sb, A, hM1.keep st2 (fun q z => by have := hS2 q z; omega), ?_, hL1.keep st2 hI1t (fun q z => by have := hS2 q z; omega), hT1.keep st2 (fun q z => by have := hS2 q z; omega), hQ2⟩ (fun q e he hn => hQk q e he (Classical.not_not.mp hn))⟩
    have hDk : ∀ {d0 FD0 p0 u0 k0}, DK I1 h1 d0 FD0 p0 u0 → (∀ q ∈ FD0, tg1 q = k0) → 20 ≤ k0 → DK I1 h2 d0 FD0 p0 u0 ∧ ∀ q ∈ FD0, tg2 q = k0 := fun hD0 ht0 hk0 => hD0.stp st2 hI1t ht0 (by omega) (fun q z => by have := hS2 q z; omega)
    obtain ⟨-, -, -, -, -, -, -, -, -, -⟩ := hH1
    refine ⟨?_, hsL ++ [(d', FD', k)], eo', ?_, fun e he => ?_, ?_, ?_, ?_, fun y hy => ?_, fun i hi => ?_⟩
    · obtain ⟨fs, lo⟩ := hH0.obj
      rw [tgo2 li (by rw [k1 _ _ lo id]; simp)]; exact hli1
    · rw [List.map_append]; exact hLs2
    · rcases hee with z | ⟨e', z1, z2⟩
      · have he2 : eo = some e := by rw [← z]; exact he
        obtain ⟨-, -, -, -, hsome⟩ := hLs1
        obtain ⟨cap, f, w1, -⟩ := hsome e he2
        rw [tgo2 e (by rw [w1]; simp)]; exact heo1 e he2
      · have hee2 := Option.some.inj (z1.symm.trans he)
        rw [hee2] at z2
        rw [htg2]
        show @ite _ (h1 e ≠ none) (Classical.propDecidable _) (tg1 e) 9 = 9
        rw [if_neg (by rw [z2]; exact fun z => z rfl)]
    · rw [List.length_append, List.length_append, hlen]; rfl
    · rw [List.length_append]; show hsL.length + 1 ≤ 6; omega
    · rw [List.map_append, List.nodup_append]
      refine ⟨hN, List.pairwise_singleton _ _, fun y hy z hz e => ?_⟩
      rw [List.mem_singleton.mp hz] at e
      exact hkn y hy e
    · rcases List.mem_append.mp hy with hy | hy
      · exact h20 y hy
      · rw [List.mem_singleton.mp hy]; show 20 ≤ k; omega
    · rw [List.length_append] at hi
      have hi : i < hsL.length + 1 := hi
      by_cases z : i = hsL.length
      · have e1 : (hsL ++ [(d', FD', k)]).getD i (0, [], 0) = (d', FD', k) := by rw [z]; exact getD_app_eq
        have e2 : (hist ++ [(p, w)]).getD i ((0, 0, false, fun _ => 0), fun _ => 0) = (p, w) := by rw [z, hlen]; exact getD_app_eq
        rw [e1, e2]
        exact hDk hD1 tgn (show 20 ≤ k by omega)
      · have hi2 : i < hsL.length := by omega
        rw [getD_app_lt hi2, getD_app_lt (by omega)]
        obtain ⟨d1, d2⟩ := hDs i hi2
        have h20i := h20 _ (getD_mem (d := (0, [], 0)) hi2)
        obtain ⟨y1, y2⟩ := d1.stp st1 hIt d2 (by omega) (fun q z => False.elim z)
        exact hDk y1 y2 h20i
/-- recording -/
theorem rec_v (hl : l.stackTraces = false) {S : ST} {P : aR → aH → Prop} (hW : WSQ Z G h x S Q) (hP : ∀ h', WSQ Z G h' x (S.1, recL S.2.1 S.1, S.2.2.1, S.2.2.2) Q → kp (fun q => ¬ Q q) h h' → P (.inl none) h') : V_X1_recordIf_0 l G 19 512 49607 P x 1 h := by
  obtain ⟨⟨p, w⟩, hist, slots, text⟩ := S
  obtain ⟨I, tg, li, sl, sb, A, hM, hH, hL, hT, hQ⟩ := hW
  have hM : WM Z I h tg x li sl sb A p w := hM
  have hH : WH G I h tg li hist := hH
  have hL : WL I h tg sl slots := hL
  have hT : WT h tg sb text := hT
  have hx := hM.obj
  have hlen : hist.length ≤ 6 := by obtain ⟨-, hs, eo, -, -, e, h6, -⟩ := hH; omega
  have e6 : (i3 hist.length = 6) = (hist.length = 6) := i3_eq (b := 6) (by omega) (by decide)
  refine ⟨fun _ => vR_mk hx rfl ⟨hH.obj, ?_⟩, fun q => absurd q (by decide)⟩
  refine vC_p (B_hsize hl hH) (by decide) (by decide) (by decide) ⟨_, rfl, ?_⟩
  simp only [e6]
  refine ⟨fun q => ?_, fun q => vR_mk hx rfl ⟨hH.obj, ?_⟩⟩
  · refine rec_add hl hM hH hL hT hQ (by omega) (by decide) (by decide) (by decide) fun h' hW' hk' => hP h' ?_ hk'
    show WSQ Z G h' x ((p, w), (if hist.length = 6 then hist.tail else hist) ++ [(p, w)], slots, text) Q
    rw [if_neg q]; exact hW'
  · have hH0 := hH
    have hIt := hM.I1
    obtain ⟨t8, hsL, eo, hLs, t9, hlen2, hl6, hN, h20, hDs⟩ := hH
    have hDm : ∀ y ∈ hsL, tg y.1 = y.2.2 ∧ 20 ≤ y.2.2 := by
      intro y hy
      obtain ⟨i, hi, e⟩ := List.mem_iff_getElem.mp hy
      obtain ⟨d1, d2⟩ := hDs i hi
      rw [List.getD_eq_getElem?_getD, List.getElem?_eq_getElem hi, Option.getD_some, e] at d1 d2
      have hmem : y.1 ∈ y.2.1 := by obtain ⟨_, _, _, _, _, _, eF, _⟩ := d1; rw [eF]; simp
      exact ⟨d2 _ hmem, h20 y hy⟩
    refine vC_r (B_remove (i := 0) hl hLs (by rw [List.length_map]; omega) (fun e => by have := t9 li e; omega) (fun y hy => ?_)) (by decide) (by decide) (by decide) fun v h1 hR => ?_
    · obtain ⟨y2, hy2, rfl⟩ := List.mem_map.mp hy
      obtain ⟨w1, w2⟩ := hDm y2 hy2
      exact ⟨fun e => by rw [e] at w1; omega, fun e => by have := t9 _ e; omega⟩
    · obtain ⟨hv, k1, hLs1⟩ := hR
      have hS1 : ∀ q, (q = li ∨ eo = some q) → tg q = 8 ∨ tg q = 9 := fun q z => z.elim (fun e => Or.inl (by rw [e]; exact t8)) (fun e => Or.inr (t9 q e))
      have st1 : stp (fun q => q = li ∨ eo = some q) I I h h1 tg tg := by
        refine ⟨k1, fun _ h => h, fun q hq => ⟨?_, hIt q hq⟩, fun _ _ => rfl⟩
        cases z : h q with
        | none => exact absurd z (hM.I0 q hq)
        | some y => rw [k1 _ _ z (fun e => by have := hS1 q e; have := hIt q hq; omega)]; simp
      have hM1 := hM.keep st1 (fun q z => by have := hS1 q z; omega)
      have hL1 := hL.keep st1 hIt (fun q z => by have := hS1 q z; omega)
      have hT1 := hT.keep st1 (fun q z => by have := hS1 q z; omega)
      obtain ⟨y0, hs', rfl⟩ : ∃ y0 hs', hsL = y0 :: hs' := by
        cases hsL with
        | nil => rw [q] at hlen2; cases hlen2
        | cons y0 hs' => exact ⟨y0, hs', rfl⟩
      obtain ⟨s0, hist', rfl⟩ : ∃ s0 hist', hist = s0 :: hist' := by
        cases hist with
        | nil => cases q
        | cons s0 hist' => exact ⟨s0, hist', rfl⟩
      have hlen3 : hs'.length = hist'.length := by simpa using hlen2
      have hH1 : WH G I h1 tg li hist' := by
        refine ⟨t8, hs', eo, hLs1, t9, hlen3, by have : hs'.length + 1 ≤ 6 := hl6; omega, ?_, fun y hy => h20 y (List.mem_cons_of_mem _ hy), fun i hi => ?_⟩
        · rw [List.map_cons, List.nodup_cons] at hN; exact hN.2
        · obtain ⟨d1, d2⟩ := hDs (i + 1) (by show i + 1 < hs'.length + 1; omega)
          have h20i := h20 _ (getD_mem (d := (0, [], 0)) (by show i + 1 < hs'.length + 1; omega))
          simp only [getD_cons_succ] at d1 d2 h20i
          exact d1.stp st1 hIt d2 (by omega) (fun q z => by have := hS1 q z; omega)
      have hfst : ((y0 :: hs').map (·.1)).getD 0 0 = y0.1 := rfl
      obtain ⟨d1, -⟩ := hDs 0 (Nat.succ_pos _)
      have hcast : ∃ fs, h1 y0.1 = some (.inr (2, fs)) := by
        obtain ⟨w1, w2⟩ := hDm y0 List.mem_cons_self
        obtain ⟨_, _, _, _, _, _, _, _, _, ho, _⟩ := d1
        exact ⟨_, k1 _ _ ho (fun e => by have := hS1 y0.1 e; omega)⟩
      refine ⟨y0.1, hv, hcast, ?_⟩
      have hQk : ∀ q e, h q = some e → Q q → h1 q = some e := fun q e he hq => k1 q e he (fun z => by have := hS1 q z; have := (hQ q hq).1; omega)
      have hQ1 : ∀ q, Q q → tg q = 13 ∧ h1 q ≠ none := fun q hq => by
        obtain ⟨q1, q2⟩ := hQ q hq
        cases z : h q with
        | none => exact absurd z q2
        | some e => exact ⟨q1, by rw [hQk q e z hq]; simp⟩
      refine rec_add hl hM1 hH1 hL1 hT1 hQ1 (by have : hist'.length + 1 = 6 := q; omega) (by decide) (by decide) (by decide) fun h' hW' hk' => hP h' ?_ (fun q e he hn => hk' q e (hQk q e he (Classical.not_not.mp hn)) hn)
      show WSQ Z G h' x ((p, w), (if (s0 :: hist').length = 6 then (s0 :: hist').tail else s0 :: hist') ++ [(p, w)], slots, text) Q
      rw [if_pos q]; exact hW'
theorem B_record (hl : l.stackTraces = false) {S : ST} (hW : WS Z G h x S) : aC l G mX1_recordIf (wsN mX1_recordIf) 19 512 49607 [.ref x, .int 1] h (aPR fun v h' => v = none ∧ WS Z G h' x (S.1, recL S.2.1 S.1, S.2.2.1, S.2.2.2)) := A_X1_recordIf hl (rec_v hl hW.q fun h' hW' _ => ⟨rfl, hW'.ws⟩)
/-- recording beside other things -/
theorem B_recordQ (hl : l.stackTraces = false) {S : ST} (hW : WSQ Z G h x S Q) : aC l G mX1_recordIf (wsN mX1_recordIf) 19 512 49607 [.ref x, .int 1] h (aPR fun v h' => v = none ∧ WSQ Z G h' x (S.1, recL S.2.1 S.1, S.2.2.1, S.2.2.2) Q ∧ kp (fun q => ¬ Q q) h h') := A_X1_recordIf hl (rec_v hl hW fun h' hW' hk => ⟨rfl, hW', hk⟩)
end REC
