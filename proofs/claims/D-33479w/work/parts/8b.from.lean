/-! the component counts arrangements of a line by its cells, and by its arrangements
-/
set_option maxRecDepth 100000
theorem filt_sum {t : Nat → Nat} {P : Nat → Bool} : ∀ (L : List Nat), ((L.filter P).map t).sum = (L.map fun x => if P x then t x else 0).sum := by
  intro L
  induction L with
  | nil => rfl
  | cons x L ih =>
    rw [List.map_cons, List.sum_cons, ← ih]
    by_cases q : P x = true
    · rw [List.filter_cons_of_pos q, List.map_cons, List.sum_cons, if_pos q]
    · rw [List.filter_cons_of_neg q, if_neg q, Nat.zero_add]
theorem sum_flat {α β : Type} {f : α → List β} {t : β → Nat} : ∀ (L : List α), ((L.flatMap f).map t).sum = (L.map fun a => ((f a).map t).sum).sum := by
  intro L
  induction L with
  | nil => rfl
  | cons x L ih => rw [List.flatMap_cons, List.map_append, List.sum_append, ih, List.map_cons, List.sum_cons]
/-- ways to go on behind some things -/
def extT (p : Pz) (u : Nat → Nat) (i : Nat) : Nat → List Nat → Nat
  | 0, pre => if p.says i pre then 1 else 0
  | k + 1, pre => ((thg p.m (u (cellN p.n i pre.length))).map fun x => if baseS p.n p.m pre x then extT p u i k (pre ++ [x]) else 0).sum
def okP (p : Pz) (u : Nat → Nat) (i : Nat) (pre : List Nat) : Prop := (∀ t ∈ pre, t ≤ p.m) ∧ ∀ j, j < pre.length → (u (cellN p.n i j)).testBit (pre.getD j 0) = true ∧ baseS p.n p.m (pre.take j) (pre.getD j 0) = true
theorem stepS_0 {n m x : Nat} {pre : List Nat} : stepS n m 0 0 pre x = baseS n m pre x := by
  unfold stepS baseS
  split
  · rfl
  · show (_ && true && true) = _
    rw [Bool.and_true, Bool.and_true]
theorem ext_fit {p : Pz} (hok : okNM p.n p.m) (u : Nat → Nat) (i : Nat) : extT p u i p.n [] = (fitL p u i).length := by
  have key : ∀ j, j ≤ p.n → ((sqN p.n p.m 0 0 (fun k => u (cellN p.n i k)) j).map fun pre => extT p u i (p.n - j) pre).sum = extT p u i p.n [] := by
    intro j
    induction j with
    | zero => intro _; show ([[]].map _).sum = _; simp
    | succ j ih =>
      intro hj
      rw [← ih (by omega)]
      show ((List.flatMap _ _).map _).sum = _
      rw [sum_flat]
      congr 1
      apply List.map_congr_left
      intro pre hp
      have hl := (mem_sqN.mp hp).1
      dsimp only
      obtain ⟨k, hk⟩ : ∃ k, p.n - j = k + 1 := ⟨p.n - j - 1, by omega⟩
      rw [show p.n - (j + 1) = k by omega, hk, List.map_map]
      show _ = ((thg p.m (u (cellN p.n i pre.length))).map fun x => if baseS p.n p.m pre x then extT p u i k (pre ++ [x]) else 0).sum
      unfold thg
      rw [hl, filt_sum]
      rw [filt_sum]
      congr 1
      apply List.map_congr_left
      intro x _
      rw [stepS_0]
      cases (u (cellN p.n i j)).testBit x <;> cases baseS p.n p.m pre x <;> rfl
  have h1 := key p.n (Nat.le_refl _)
  rw [Nat.sub_self] at h1
  rw [← h1]
  have h2 : ((sqN p.n p.m 0 0 (fun k => u (cellN p.n i k)) p.n).map fun pre => extT p u i 0 pre).sum = ((sqN p.n p.m 0 0 (fun k => u (cellN p.n i k)) p.n).filter (p.says i)).length := by
    generalize sqN p.n p.m 0 0 (fun k => u (cellN p.n i k)) p.n = L
    induction L with
    | nil => rfl
    | cons x L ih =>
      rw [List.map_cons, List.sum_cons, ih]
      show (if p.says i x = true then 1 else 0) + _ = _
      by_cases q : p.says i x = true
      · rw [if_pos q, List.filter_cons_of_pos q, List.length_cons]; omega
      · rw [if_neg q, List.filter_cons_of_neg q]; omega
  rw [h2]
  refine List.Perm.length_eq ((List.perm_ext_iff_of_nodup ((sqN_nodup _).filter _) ((arrs_nodup hok).filter _)).mpr fun xs => ?_)
  show _ ↔ xs ∈ fitL p u i
  rw [List.mem_filter, mem_sqN, mem_fitL, fit_iff]
  have k0 : xs.length = p.n → (∀ t ∈ xs, t ≤ p.m) → ((∀ j, j < p.n → stepS p.n p.m 0 0 (xs.take j) (xs.getD j 0) = true) ↔ xs ∈ arrs p.n p.m) := by
    intro h1 h2
    have h3 := allS_iff hok h1 h2 (tF := 0) (tL := 0) (Nat.zero_le _) (Nat.zero_le _)
    unfold allS at h3
    rw [all_range] at h3
    rw [h3]
    exact ⟨fun h => h.1, fun h => ⟨h, rfl, rfl⟩⟩
  constructor
  · intro ⟨⟨h1, h2, h3⟩, h4⟩
    exact ⟨(k0 h1 h2).mp fun j hj => (h3 j hj).2, fun k hk => (h3 k hk).1, h4⟩
  · intro ⟨h1, h2, h3⟩
    have hr := arrs_row hok h1
    exact ⟨⟨hr.1, hr.2.1, fun j hj => ⟨h2 j hj, (k0 hr.1 hr.2.1).mpr h1 j hj⟩⟩, h3⟩
def andn (x y : Nat) : Nat := x ^^^ (x &&& y)
theorem andn_bit (x y j : Nat) : (andn x y).testBit j = (x.testBit j && !y.testBit j) := by
  unfold andn
  rw [Nat.testBit_xor, Nat.testBit_and]
  cases x.testBit j <;> cases y.testBit j <;> rfl
theorem i3_andn (x y : Nat) : i3 x &&& (i3 y ^^^ (-1)) = i3 (andn x y) := by
  apply Int32.toBitVec_inj.mp
  rw [Int32.toBitVec_and, Int32.toBitVec_xor, i3_bv, i3_bv, i3_bv]
  have e : (-1 : Int32).toBitVec = BitVec.allOnes 32 := rfl
  rw [e]
  apply BitVec.eq_of_getLsbD_eq
  intro j hj
  simp only [BitVec.getLsbD_and, BitVec.getLsbD_xor, BitVec.getLsbD_ofNat, BitVec.getLsbD_allOnes, hj, decide_true, Bool.true_and, andn_bit]
  cases x.testBit j <;> cases y.testBit j <;> rfl
section FRM
variable {l : Launch} {G : aG} {I : Nat → Prop} {b a th : Nat} {F : List Nat} {p : Pz} {u : Nat → Nat}
theorem B_countFrom (hl : l.stackTraces = false) {i x : Nat} (hi : i < p.nL) (hxt : x ≠ th) (hxb : x ≠ b) (hxF : x ∉ F) (hxI : ¬ I x) : ∀ (k : Nat) (h : aH) (g : Nat → Int32) (pre : List Nat), pre.length + k = p.n → BD I h b a th F p u → h x = some (aInts .int p.n g) → (∀ j, j < pre.length → g j = i3 (pre.getD j 0)) → okP p u i pre →
    aC l G mX5_countFrom (wsN mX5_countFrom) (3 + k) 0 0 [.ref b, .int (i3 i), .int (i3 pre.length), .int (i3 (mskN p.m pre)), .ref x] h (aPR fun v h' => v = some (.int (i3 (extT p u i k pre))) ∧ kp (· = x) h h' ∧ ∃ g', h' x = some (aInts .int p.n g') ∧ ∀ j, j < pre.length → g' j = i3 (pre.getD j 0)) := by
  intro k
  induction k with
  | zero =>
    intro h g pre hlen hB hx hg hpre
    have hok := hB.ok
    have hn := hok.n45
    have hL := nL_le hok
    have hP0 := hB.1
    obtain ⟨hP, rb, f, hb, ht, hf, -⟩ := hB
    obtain ⟨tl, ls, lo, ar, rw, T, L, R, sec, -, -, -, -, -, ho, -⟩ := hP
    have hl2 : pre.length = p.n := by omega
    have hrow : pre ∈ arrs p.n p.m := by
      refine (base_iff hok hl2 hpre.1).1.mp ?_
      unfold baseA
      rw [all_range]
      exact fun j hj => (hpre.2 j (by omega)).2
    refine A_X5_countFrom hl (vR_mk hb rfl (vI_mk ho rfl ⟨fun q => absurd (by rw [hl2]) q, fun _ => vR_mk hb rfl ⟨⟨_, ho⟩, ?_⟩⟩))
    refine vC_p (B_isTrue hl hP0 (by omega) ⟨g, hx, fun j hj => hg j (by omega)⟩ hrow) (by decide) (by decide) (by decide) ⟨_, rfl, ?_, kp.rf, g, hx, hg⟩
    unfold extT
    cases p.says i pre <;> rfl
  | succ k ih =>
    intro h g pre hlen hB hx hg hpre
    have hok := hB.ok
    have hn := hok.n45
    have hm := hok.m24
    have hL := nL_le hok
    have hnn := nn_le hn
    have h32 := pow_le hm.2.2
    have h16 := p16 hm.2.2
    have hbnd := hB.bnd
    have hB0 := hB
    obtain ⟨hP, rb, f, hb, ht, hf, -⟩ := hB
    have hobj : ∃ fs, h a = some (.inr (3, fs)) ∧ fs[4]? = some (.int (i3 p.n)) ∧ fs[5]? = some (.int (i3 p.m)) := by
      obtain ⟨tl, ls, lo, ar, rw, T, L, R, sec, -, -, -, -, -, ho, -⟩ := hP
      exact ⟨_, ho, rfl, rfl⟩
    obtain ⟨fs, hoa, ho4, ho5⟩ := hobj
    obtain ⟨tl, ls, lo, ar, rw, T, L, R, sec, -, -, -, -, -, ho, -, -, -, hls, hrw, hlo, hlo2, hA⟩ := hP
    have hpl : pre.length < p.n := by omega
    obtain ⟨r1, lf, r2, r3⟩ := hrw i (by omega)
    have r3 := r3 hi
    have hc := cellN_lt hn (by omega : i < 2 * p.n + 2) hpl
    have hfc := hf _ hc
    have hmk : mskN p.m pre < 2 ^ p.m := msk_lt
    have hbf : befN p.m pre ≤ p.m := pc_mask_le pre p.m hm.2.2
    have hbe : pc (mskN p.m pre) = befN p.m pre := rfl
    have hbl := bef_len hm.2.2 hpre.1
    obtain ⟨c, hcc⟩ : ∃ c, c = cellN p.n i pre.length := ⟨_, rfl⟩
    rw [← hcc] at hc hfc
    have hax : a ≠ x := fun e => by rw [e, hx] at hoa; cases hoa
    refine A_X5_countFrom hl (vR_mk hb rfl (vI_mk ho rfl ⟨fun _ => vR_mk hb rfl (vR_mk hb rfl (vR_mk ho rfl (vAR_mk hls rfl (by omega : i < 12) (by decide) r1 (vA_mk r2 rfl (by omega : pre.length < 5) (by decide) ?_)))), fun q => absurd q (by rw [i3_eq (by omega) (by omega)]; omega)⟩))
    rw [r3 _ hpl, ← hcc]
    refine vA_mk ht rfl (by omega : c < 25) (by decide) (vR_mk hb rfl (vI_mk ho rfl ?_))
    rw [hfc.1, i3_andn]
    refine vC_p (B_bitCount hl (by omega)) (by omega) (by decide) (by decide) ⟨_, rfl, ?_⟩
    show T_X5_countFrom_73 l G (3 + (k + 1)) 0 0 _ b (i3 i) (i3 pre.length) (i3 (mskN p.m pre)) x (i3 0) (i3 p.m - i3 (pc (mskN p.m pre))) (i3 (andn (u c) (mskN p.m pre))) h 0 0
    rw [hbe, i3_sub hbf]
    -- the things that are left
    obtain ⟨term, hterm⟩ : ∃ term : Nat → Nat, term = fun y => if baseS p.n p.m pre y then extT p u i k (pre ++ [y]) else 0 := ⟨_, rfl⟩
    have htot : extT p u i (k + 1) pre = ((thg p.m (u c)).map term).sum := by rw [hterm, hcc]; rfl
    have hsub0 : ((thg p.m (andn (u c) (mskN p.m pre))).map term).sum = ((thg p.m (u c)).map term).sum := by
      unfold thg
      rw [filt_sum, filt_sum]
      congr 1
      apply List.map_congr_left
      intro y hy
      have hy := List.mem_range.mp hy
      rw [andn_bit]
      cases q : (mskN p.m pre).testBit y with
      | false => rw [Bool.not_false, Bool.and_true]
      | true =>
        rw [Bool.not_true, Bool.and_false, if_neg (by decide)]
        have hym : y < p.m := by
          rcases Nat.lt_or_ge y p.m with z | z
          · exact z
          · rw [Nat.testBit_lt_two_pow (Nat.lt_of_lt_of_le hmk (Nat.pow_le_pow_right (n := 2) (by decide) z))] at q; cases q
        have : term y = 0 := by
          rw [hterm]
          show (if baseS p.n p.m pre y = true then _ else 0) = 0
          unfold baseS
          rw [if_neg (by omega : ¬ y = p.m), ← msk_bit hym, q]; rfl
        rw [this]; split <;> rfl
    have loop : ∀ (κ s acc : Nat) (h1 : aH) (g1 : Nat → Int32), s < κ → s < 2 ^ (p.m + 1) → (∀ y, s.testBit y = true → (u c).testBit y = true ∧ (mskN p.m pre).testBit y = false) → acc + ((thg p.m s).map term).sum = extT p u i (k + 1) pre → kp (· = x) h h1 → h1 x = some (aInts .int p.n g1) → (∀ j, j < pre.length → g1 j = i3 (pre.getD j 0)) →
        T_X5_countFrom_73 l G (3 + (k + 1)) 0 0 (aPR fun v h' => v = some (.int (i3 (extT p u i (k + 1) pre))) ∧ kp (· = x) h h' ∧ ∃ g', h' x = some (aInts .int p.n g') ∧ ∀ j, j < pre.length → g' j = i3 (pre.getD j 0)) b (i3 i) (i3 pre.length) (i3 (mskN p.m pre)) x (i3 acc) (i3 (p.m - befN p.m pre)) (i3 s) h1 0 0 := by
      intro κ
      induction κ with
      | zero => intro s acc h1 g1 hs; exact absurd hs (Nat.not_lt_zero _)
      | succ κ ihκ =>
        intro s acc h1 g1 hs hsm hsub hacc hk1 hx1 hg1
        have hs32 : s < 32 := by omega
        have ez : (i3 s = 0) = (s = 0) := i3_eq (b := 0) (by omega) (by decide)
        have hb1 : h1 b = some (aObj 5 [.ref a, .ref th, .ref rb]) := hk1 _ _ hb (fun e => hxb e.symm)
        have ho1 : h1 a = some (.inr (3, fs)) := hk1 _ _ hoa hax
        refine A_X5_countFrom_73 hl ?_
        unfold V_X5_countFrom_73
        simp only [ez]
        refine ⟨fun q => ⟨?_, hk1, g1, hx1, hg1⟩, fun q => ?_⟩
        · have : thg p.m s = [] := by
            subst q
            unfold thg; rw [List.filter_eq_nil_iff]; intro i _; simp
          rw [this] at hacc
          rw [← hacc]; rfl
        · obtain ⟨n1, n2, n3⟩ := ntz_spec q (by omega : s < 4096)
          have hym : ntz s ≤ p.m := bit_le hsm n1
          obtain ⟨s', hs', e1, e2⟩ := rest_step (by omega : s < 4096) q
          have hth := thg_rest hsm q (by omega) e2
          rw [hth, List.map_cons, List.sum_cons] at hacc
          have hsub' : ∀ y, s'.testBit y = true → (u c).testBit y = true ∧ (mskN p.m pre).testBit y = false := fun y hy => hsub y (by rw [e2, Bool.and_eq_true] at hy; exact hy.1)
          obtain ⟨hub, hmb⟩ := hsub _ n1
          refine vC_p (B_ntz hl (by omega) q) (by omega) (by decide) (by decide) ⟨_, rfl, vR_mk hb1 rfl (vI_mk ho1 ho5 (vSt_mk hx1 rfl hpl (by omega) ?_))⟩
          have k2 : kp (· = x) h1 (aUp h1 x (aInts .int p.n (upd g1 pre.length (i3 (ntz s))))) := kp.up rfl
          have hk2 := hk1.tr k2
          have hb2 : (aUp h1 x (aInts .int p.n (upd g1 pre.length (i3 (ntz s))))) b = some (aObj 5 [.ref a, .ref th, .ref rb]) := hk2 _ _ hb (fun e => hxb e.symm)
          have ho2 : (aUp h1 x (aInts .int p.n (upd g1 pre.length (i3 (ntz s))))) a = some (.inr (3, fs)) := hk2 _ _ hoa hax
          have hg2 : ∀ j, j < (pre ++ [ntz s]).length → upd g1 pre.length (i3 (ntz s)) j = i3 ((pre ++ [ntz s]).getD j 0) := by
            intro j hj
            rw [List.length_append] at hj
            have hj : j < pre.length + 1 := hj
            by_cases z : j = pre.length
            · rw [z, upd_same, getD_app_eq]
            · rw [upd_ne z, getD_app_lt (by omega)]; exact hg1 j (by omega)
          have ep : (i3 (ntz s) = i3 p.m) = (ntz s = p.m) := i3_eq (by omega) (by omega)
          simp only [ep]
          -- going on with it
          have goOn : baseS p.n p.m pre (ntz s) = true → ∀ z : Int32, z = (if ntz s = p.m then 1 else 0) → T_X5_countFrom_129 l G (3 + (k + 1)) 0 0 (aPR fun v h' => v = some (.int (i3 (extT p u i (k + 1) pre))) ∧ kp (· = x) h h' ∧ ∃ g', h' x = some (aInts .int p.n g') ∧ ∀ j, j < pre.length → g' j = i3 (pre.getD j 0)) b (i3 i) (i3 pre.length) (i3 (mskN p.m pre)) x (i3 acc) (i3 (p.m - befN p.m pre)) (i3 s) (i3 (ntz s)) z (aUp h1 x (aInts .int p.n (upd g1 pre.length (i3 (ntz s))))) 0 0 := by
            intro hbs z hz
            refine A_X5_countFrom_129 hl ⟨⟨_, hb2⟩, ?_⟩
            have emet : (if z = 0 then (i3 (mskN p.m pre) ||| ((1 : Int32) <<< (i3 (ntz s) &&& 31))) else i3 (mskN p.m pre)) = i3 (mskN p.m (pre ++ [ntz s])) := by
              rw [msk_app hym, hz]
              by_cases w : ntz s = p.m
              · rw [if_pos w, if_neg (by decide), if_neg (by omega)]
              · rw [if_neg w, if_pos rfl, if_pos (by omega), i3_one (by omega), i3_or]
            have elen : i3 pre.length + 1 = i3 (pre ++ [ntz s]).length := by rw [i3_succ, List.length_append]; rfl
            rw [emet, elen]
            have hpre2 : okP p u i (pre ++ [ntz s]) := by
              refine ⟨fun t ht => ?_, fun j hj => ?_⟩
              · rcases List.mem_append.mp ht with ht | ht
                · exact hpre.1 t ht
                · rw [List.mem_singleton.mp ht]; exact hym
              · rw [List.length_append] at hj
                have hj : j < pre.length + 1 := hj
                by_cases w : j = pre.length
                · rw [w, getD_app_eq, List.take_left, ← hcc]; exact ⟨hub, hbs⟩
                · rw [getD_app_lt (by omega), List.take_append_of_le_length (by omega)]; exact hpre.2 j (by omega)
            have hB2 : BD I (aUp h1 x (aInts .int p.n (upd g1 pre.length (i3 (ntz s))))) b a th F p u := hB0.oth hk2 (Ne.symm hxt) (Ne.symm hxb) hxF hxI
            refine vC_r (ih _ _ (pre ++ [ntz s]) (by rw [List.length_append]; show pre.length + 1 + k = p.n; omega) hB2 aUp_eq hg2 hpre2) (by omega) (by decide) (by decide) fun v h3 hR3 => ?_
            obtain ⟨hv, k3, g3, hx3, hg3⟩ := hR3
            refine ⟨_, hv, ?_⟩
            show T_X5_countFrom_73 l G (3 + (k + 1)) 0 0 _ b (i3 i) (i3 pre.length) (i3 (mskN p.m pre)) x (i3 acc + i3 (extT p u i k (pre ++ [ntz s]))) (i3 (p.m - befN p.m pre)) (i3 s &&& (i3 s - 1)) h3 0 0
            rw [i3_add, e1]
            refine ihκ s' _ h3 g3 (by omega) (by omega) hsub' ?_ (hk2.tr k3) hx3 (fun j hj => by
              have := hg3 j (by rw [List.length_append]; show j < pre.length + 1; omega)
              rw [this, getD_app_lt hj])
            rw [← hacc, Nat.add_assoc]
            congr 2
            rw [hterm]
            show _ = if baseS p.n p.m pre (ntz s) = true then extT p u i k (pre ++ [ntz s]) else 0
            rw [if_pos hbs]
          by_cases w : ntz s = p.m
          · rw [if_pos w]
            refine ⟨fun z => absurd z (by decide), fun _ => vR_mk hb2 rfl (vI_mk ho2 ho4 ?_)⟩
            rw [i3_sub (by omega : pre.length ≤ p.n)]
            simp only [i3_le (a := p.n - pre.length) (b := p.m - befN p.m pre) (by omega) (by omega)]
            have hgp : baseS p.n p.m pre (ntz s) = decide (pre.length - befN p.m pre < p.n - p.m) := by
              unfold baseS; rw [if_pos w]; rfl
            refine ⟨fun z => ?_, fun z => goOn (by rw [hgp, decide_eq_true_iff]; omega) 1 (by rw [if_pos w])⟩
            rw [e1]
            refine ihκ s' acc _ _ (by omega) (by omega) hsub' ?_ hk2 aUp_eq (fun j hj => by rw [upd_ne (by omega)]; exact hg1 j hj)
            rw [← hacc]
            congr 1
            have : term (ntz s) = 0 := by
              rw [hterm]
              show (if baseS p.n p.m pre (ntz s) = true then _ else 0) = 0
              rw [hgp, decide_eq_false (by omega), if_neg (by decide)]
            rw [this, Nat.zero_add]
          · rw [if_neg w]
            refine ⟨fun _ => goOn ?_ 0 (by rw [if_neg w]), fun z => absurd rfl z⟩
            unfold baseS
            rw [if_neg w, ← msk_bit (m := p.m) (by omega), hmb]; rfl
    refine loop (andn (u c) (mskN p.m pre) + 1) _ 0 h g (Nat.lt_succ_self _) ?_ (fun y hy => ?_) ?_ kp.rf hx hg
    · unfold andn
      exact Nat.xor_lt_two_pow hfc.2 (Nat.lt_of_le_of_lt Nat.and_le_left hfc.2)
    · rw [andn_bit, Bool.and_eq_true] at hy
      exact ⟨hy.1, by simpa using hy.2⟩
    · rw [Nat.zero_add, hsub0, htot]
theorem B_next72 (hl : l.stackTraces = false) {h : aH} {it ar j : Nat} (hit : h it = some (aObj 6 [.int (i3 j), .ref ar])) (hA : ARR I h ar p.n p.m) (hj : j < (arrs p.n p.m).length) (hok : okNM p.n p.m) (hIt : ¬ I it) :
    ∃ x, rowA h x p.n ((arrs p.n p.m).getD j []) ∧ I x ∧ aC l G mX7_next_2 (wsN mX7_next_2) 3 0 0 [.ref it] h (aPR fun v h' => v = some (.ref x) ∧ kp (· = it) h h' ∧ h' it = some (aObj 6 [.int (i3 (j + 1)), .ref ar])) := by
  have hal := arrs_len hok
  obtain ⟨li, e, cap, f, ho, hL, hr, hIa, hIl, hIe⟩ := hA
  obtain ⟨x, hx, ⟨g, hg, hg2⟩, hIx⟩ := hr j hj
  refine ⟨x, ⟨g, hg, hg2⟩, hIx, A_X7_next_2 hl (vI_mk hit rfl (vPut_mk hit (by show 0 < 2; decide) ?_))⟩
  have k1 : kp (· = it) h (aUp h it (.inr (6, [Value.int (i3 j), Value.ref ar].set 0 (.int (i3 j + 1))))) := kp.up rfl
  have ni : ∀ q, I q → ¬ q = it := fun q hq e => hIt (by rw [← e]; exact hq)
  have h6 : (aUp h it (.inr (6, [Value.int (i3 j), Value.ref ar].set 0 (.int (i3 j + 1))))) it = some (aObj 6 [.int (i3 (j + 1)), .ref ar]) := by rw [aUp_eq, i3_succ]; rfl
  obtain ⟨⟨mo, hlo⟩, hLe, hL1, hL2⟩ := hL
  have hL' : AL (aUp h it (.inr (6, [Value.int (i3 j), Value.ref ar].set 0 (.int (i3 j + 1))))) li e cap f (arrs p.n p.m).length := ⟨⟨mo, k1 _ _ hlo (ni _ hIl)⟩, k1 _ _ hLe (ni _ hIe), hL1, hL2⟩
  refine vR_mk h6 rfl (vR_mk (k1 _ _ ho (ni _ hIa)) rfl (vI_mk h6 rfl ⟨⟨_, k1 _ _ hlo (ni _ hIl)⟩, ?_⟩))
  have ej : i3 (j + 1) - 1 = i3 j := by
    have : i3 (j + 1) - i3 1 = i3 (j + 1 - 1) := i3_sub (by omega)
    exact this
  rw [ej]
  exact vC_p (B_get hl hL' hj hx) (by decide) (by decide) (by decide) ⟨_, rfl, ⟨_, _, k1 _ _ hg (ni _ hIx)⟩, rfl, k1, h6⟩
theorem B_arrangements (hl : l.stackTraces = false) {h : aH} (hB : BD I h b a th F p u) {i : Nat} (hi : i < p.nL) (hI0 : ∀ q, I q → h q ≠ none) :
    aC l G mX5_arrangements (wsN mX5_arrangements) 5 1 2 [.ref b, .int (i3 i)] h (aPR fun v h' => v = some (.int (i3 (fitL p u i).length)) ∧ kp (fun _ => False) h h') := by
  have hok := hB.ok
  have hal := arrs_len hok
  have hB0 := hB
  obtain ⟨hP, rb, f, hb, ht, hf, m1, m2, m3, m4⟩ := hB
  have hP0 := hP
  obtain ⟨tl, ls, lo, ar, rw, T, L, R, sec, -, -, -, -, hPn, ho, -, -, -, -, -, -, -, hA⟩ := hP
  have hA0 := hA
  obtain ⟨li, e, cap, fl, har, hAL, hAr, hIa, hIl, hIe⟩ := hA
  refine A_X5_arrangements hl (vR_mk hb rfl (vO_mk (x := some ar) ho rfl ⟨_, rfl, ⟨_, har⟩, ?_⟩))
  have hit : aC l G mX4_iterator (wsN mX4_iterator) 2 1 2 [.ref ar] h (aPR fun v h' => ∃ it, v = some (.ref it) ∧ h it = none ∧ kp (fun _ => False) h h' ∧ h' it = some (aObj 6 [.int (i3 0), .ref ar])) := by
    refine A_X4_iterator hl ⟨by decide, by decide, fun it hno _ => ?_⟩
    have hinit : aC l G mX7_init (wsN mX7_init) 1 0 0 [.ref it, .ref ar] (aUp h it (aObj 6 [.int 0, .null])) (aP1 none (aUp (aUp h it (aObj 6 [.int 0, .null])) it (aObj 6 [.int 0, .ref ar]))) :=
      A_X7_init hl (vPut_mk aUp_eq (by show 1 < 2; decide) ⟨by decide, rfl, rfl⟩)
    refine vC_p hinit (by decide) (by decide) (by decide) ⟨rfl, it, rfl, hno, ?_, aUp_eq⟩
    intro q e2 he _
    have : q ≠ it := fun z => by rw [z, hno] at he; cases he
    rw [aUp_ne this, aUp_ne this]; exact he
  refine vC_r hit (by decide) (by decide) (by decide) fun v h1 hR1 => ?_
  obtain ⟨it, rfl, hno, k1, hit1⟩ := hR1
  refine ⟨it, rfl, ?_⟩
  have hIt : ¬ I it := fun z => hI0 _ z hno
  have hitn : ∀ q e2, h q = some e2 → ¬ q = it := fun q e2 he z => by rw [z, hno] at he; cases he
  have hasN : ∀ (h2 : aH) (j : Nat), j ≤ (arrs p.n p.m).length → kp (fun _ => False) h h2 → h2 it = some (aObj 6 [.int (i3 j), .ref ar]) → aC l G mX7_hasNext (wsN mX7_hasNext) 1 0 0 [.ref it] h2 (aP1 (some (.int (bI (decide (j < (arrs p.n p.m).length))))) h2) := by
    intro h2 j hj k2 hit2
    obtain ⟨li, e, cap, f2, har2, hAL2, -⟩ := hA0.kp (I' := I) k2 (fun _ _ => id) (fun _ h => h)
    have hAL3 := hAL2
    obtain ⟨⟨mo, hlo⟩, -⟩ := hAL2
    refine A_X7_hasNext hl (vI_mk hit2 rfl (vR_mk hit2 rfl (vR_mk har2 rfl ⟨⟨_, hlo⟩, ?_⟩)))
    refine vC_p (B_size hl hAL3) (by decide) (by decide) (by decide) ⟨_, rfl, vB_if', ?_, rfl⟩
    simp only [i3_le (a := (arrs p.n p.m).length) (b := j) (by omega) (by omega)]
    rw [bI_if']
    have : (decide ¬ (arrs p.n p.m).length ≤ j) = decide (j < (arrs p.n p.m).length) := decide_eq_decide.mpr Nat.not_le
    rw [this]
  have loop := vloop (N := (arrs p.n p.m).length) (T := fun j => ∀ (h2 : aH), kp (fun _ => False) h h2 → h2 it = some (aObj 6 [.int (i3 j), .ref ar]) → T_X5_arrangements_13 l G 5 1 2 (aPR fun v h' => v = some (.int (i3 (fitL p u i).length)) ∧ kp (fun _ => False) h h') b (i3 i) (i3 ((((arrs p.n p.m).take j).filter (fit p u i)).length)) it h2 1 2) ?_ ?_ 0 (Nat.zero_le _) h1 k1 hit1
  · exact loop
  · intro h2 k2 hit2
    refine A_X5_arrangements_13 hl ⟨⟨_, hit2⟩, ?_⟩
    refine vC_p (hasN h2 _ (Nat.le_refl _) k2 hit2) (by decide) (by decide) (by decide) ⟨_, rfl, fun _ => ⟨?_, k2⟩, fun q => absurd (by rw [decide_eq_false (Nat.lt_irrefl _)]; rfl) q⟩
    rw [List.take_length]; rfl
  · intro j hj ihj h2 k2 hit2
    have hA2 := hA0.kp (I' := I) k2 (fun _ _ => id) (fun _ h => h)
    have hB2 : BD I h2 b a th F p u := ⟨hP0.kp k2 (fun _ _ => id) (fun _ _ => id) (fun _ h => h) hPn, rb, f, k2 _ _ hb id, k2 _ _ ht id, hf, m1, m2, m3, m4⟩
    obtain ⟨x, hx, hIx, hC⟩ := B_next72 (G := G) (p := p) hl hit2 hA2 hj hok hIt
    have hmem : (arrs p.n p.m).getD j [] ∈ arrs p.n p.m := getD_mem hj
    have hnext : aC l G mX7_next (wsN mX7_next) 4 0 0 [.ref it] h2 (aPR fun v h' => v = some (.ref x) ∧ kp (· = it) h2 h' ∧ h' it = some (aObj 6 [.int (i3 (j + 1)), .ref ar])) := by
      refine A_X7_next hl ⟨⟨_, hit2⟩, ?_⟩
      refine vC_r hC (by decide) (by decide) (by decide) fun v h3 hR3 => ?_
      obtain ⟨rfl, k3, h6⟩ := hR3
      exact ⟨_, rfl, rfl, k3, h6⟩
    refine A_X5_arrangements_13 hl ⟨⟨_, hit2⟩, ?_⟩
    refine vC_p (hasN h2 j (by omega) k2 hit2) (by decide) (by decide) (by decide) ⟨_, rfl, fun q => ?_, fun _ => ⟨⟨_, hit2⟩, ?_⟩⟩
    · rw [decide_eq_true hj] at q; cases q
    · refine vC_r hnext (by decide) (by decide) (by decide) fun v h3 hR3 => ?_
      obtain ⟨rfl, k3, h6⟩ := hR3
      have k23 : kp (fun _ => False) h h3 := fun q e2 he _ => k3 _ _ (k2 _ _ he id) (hitn _ _ he)
      have hB3 : BD I h3 b a th F p u := ⟨hP0.kp k23 (fun _ _ => id) (fun _ _ => id) (fun _ h => h) hPn, rb, f, k23 _ _ hb id, k23 _ _ ht id, hf, m1, m2, m3, m4⟩
      have hx3 : rowA h3 x p.n ((arrs p.n p.m).getD j []) := by
        obtain ⟨g, hg, hg2⟩ := hx
        exact ⟨g, k3 _ _ hg (fun e => hIt (by rw [← e]; exact hIx)), hg2⟩
      have hx30 := hx3
      obtain ⟨g, hg, -⟩ := hx3
      refine ⟨_, rfl, ⟨_, _, hg⟩, ⟨_, k23 _ _ hb id⟩, ?_⟩
      refine vC_p (B_canHave hl hB3 hi hx30 hmem) (by decide) (by decide) (by decide) ⟨_, rfl, fun v hv => ?_⟩
      rw [take_succ_getD' hj (d := []), filter_app1, List.length_append] at ihj
      have : v = i3 ((((arrs p.n p.m).take j).filter (fit p u i)).length + (if fit p u i ((arrs p.n p.m).getD j []) = true then [(arrs p.n p.m).getD j []] else []).length) := by
        rw [hv, ← i3_add]
        congr 1
        cases fit p u i ((arrs p.n p.m).getD j []) <;> rfl
      rw [this]
      exact ihj h3 k23 h6
end FRM
