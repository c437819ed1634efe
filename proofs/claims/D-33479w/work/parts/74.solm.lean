/-! the model's search
-/
set_option maxRecDepth 100000
def encT : Nat → Int32
  | 0 => -1
  | t + 1 => i3 t
theorem encT_succ {t : Nat} : encT t + 1 = i3 t := by
  cases t with
  | zero => rfl
  | succ t => exact i3_succ t
theorem encT_pred {t : Nat} : i3 t + (-1) = encT t := by
  cases t with
  | zero => rfl
  | succ t =>
    show i3 (t + 1) + (-1) = i3 t
    rw [← i3_succ, Int32.add_assoc]
    show i3 t + (1 + -1) = i3 t
    rw [show ((1 : Int32) + -1) = 0 from rfl, Int32.add_zero]
theorem S_allLines {st : MSt} {p : Pz} (h : MV st p) : S_X6_allLines st = some (i3 (2 ^ p.nL - 1)) := by
  have hL := nL_le h.1
  unfold S_X6_allLines
  rw [S_lines h, Option.bind_some]
  have e1 : (1 : Int32) <<< (i3 p.nL &&& 31) = i3 (1 <<< p.nL) := i3_shl (a := 1) (by omega)
  have h2 : 0 < 2 ^ p.nL := Nat.two_pow_pos _
  rw [e1, Nat.one_shiftLeft]
  have : i3 (2 ^ p.nL) - 1 = i3 (2 ^ p.nL - 1) := i3_sub (b := 1) h2
  rw [this]
def LSV (st : MSt) (p : Pz) (ord : Bool) : List lvT → Prop
  | [] => True
  | x :: r => (LVw st (75 + 25 * r.length) p.m x.2.2 ∧ st.2.1 8 r.length = i3 x.1 ∧ st.2.1 9 r.length = encT x.2.1 ∧ x.1 < p.n * p.n ∧ x.2.1 ≤ p.m + 1 ∧ AC p x.2.2 ∧ r.length + uns p x.2.2 ≤ 25 ∧ pc (x.2.2 x.1) ≠ 1) ∧ LSV st p ord r
theorem LSV.keep {st st' : MSt} {p : Pz} {ord : Bool} : ∀ {L : List lvT}, LSV st p ord L → (∀ q, q < 75 + 25 * L.length → st'.2.1 5 q = st.2.1 5 q) → (∀ q, q < L.length → st'.2.1 8 q = st.2.1 8 q) → (∀ q, q < L.length → st'.2.1 9 q = st.2.1 9 q) → LSV st' p ord L := by
  intro L
  induction L with
  | nil => intro _ _ _ _; trivial
  | cons x r ih =>
    intro ⟨⟨h1, h2, h3, h4⟩, h5⟩ e5 e8 e9
    have hl : (x :: r).length = r.length + 1 := rfl
    rw [hl] at e5 e8 e9
    refine ⟨⟨fun c hc => by rw [e5 _ (by omega)]; exact h1 c hc, by rw [e8 _ (by omega)]; exact h2, by rw [e9 _ (by omega)]; exact h3, h4⟩, ih h5 (fun q hq => e5 q (by omega)) (fun q hq => e8 q (by omega)) (fun q hq => e9 q (by omega))⟩
theorem c95_run {K : Int32 → Int32 → Int32 → Int32 → Int32 → Int32 → MSt → Option (Int32 × MSt)} {x1 x2 x3 : Int32} {st : MSt} {p : Pz} {D b g a : Nat} (h : MV st p) (hg : st.2.1 8 D = i3 g) (ha : st.2.1 5 (b + g) = i3 a) (ha2 : a < 2 ^ (p.m + 1)) (hD : D < 27) (hb : b + g < 750) :
    ∀ (j t fuel : Nat), p.m + 1 - t = j → t ≤ p.m + 1 → j + 1 ≤ fuel → ∃ t', t ≤ t' ∧ t' ≤ p.m + 1 ∧ thgF p.m a t = thgF p.m a t' ∧ (t' ≤ p.m → a.testBit t' = true) ∧ S_X6_solutions_c95 K fuel x1 x2 x3 (i3 D) (i3 b) (i3 t) st = K x1 x2 x3 (i3 D) (i3 b) (i3 t') st := by
  have hm := h.1.m24
  have h32 := pow_le hm.2.2
  intro j
  induction j with
  | zero =>
    intro t fuel hj ht hf
    obtain ⟨f, rfl⟩ : ∃ k, fuel = k + 1 := ⟨fuel - 1, by omega⟩
    refine ⟨t, Nat.le_refl _, ht, rfl, fun q => by omega, ?_⟩
    rw [S_X6_solutions_c95, h.2.2.1]
    simp only [i3_lt (a := p.m) (b := t) (by omega) (by omega)]
    rw [if_pos (by omega)]
  | succ j ih =>
    intro t fuel hj ht hf
    obtain ⟨f, rfl⟩ : ∃ k, fuel = k + 1 := ⟨fuel - 1, by omega⟩
    have hq : ¬ p.m < t := by omega
    have body : S_X6_solutions_c95 K (f + 1) x1 x2 x3 (i3 D) (i3 b) (i3 t) st = if a.testBit t = true then K x1 x2 x3 (i3 D) (i3 b) (i3 t) st else S_X6_solutions_c95 K f x1 x2 x3 (i3 D) (i3 b) (i3 (t + 1)) st := by
      rw [S_X6_solutions_c95, h.2.2.1]
      simp only [i3_lt (a := p.m) (b := t) (by omega) (by omega), hq, if_false]
      rw [ob_e hD (by decide), hg, i3_add, ob_e hb (by decide), ha, S_has (by omega) (by omega), Option.bind_some, i3_succ]
      simp only [bI_eq0]
      cases a.testBit t <;> rfl
    rw [body]
    cases q : a.testBit t with
    | true => exact ⟨t, Nat.le_refl _, ht, rfl, fun _ => q, rfl⟩
    | false =>
      obtain ⟨t', k1, k2, k3, k4, k5⟩ := ih (t + 1) f (by omega) (by omega) (by omega)
      exact ⟨t', by omega, k2, (thgF_no (by omega) q).trans k3, k4, k5⟩
def resV (p : Pz) (ord : Bool) (most : Nat) (F all : List (List Nat)) : Prop := F.length ≤ most ∧ ∃ R, simL ord (F ++ R) all ∧ (F.length < most → R = [])
theorem S_solL {p : Pz} {ord : Bool} {most : Nat} (hmost : most ≤ 1000) : ∀ (μ : Nat) (L : List lvT) (F : List (List Nat)) (st : MSt) (fuel : Nat), MV st p → TC st → LSV st p ord L → FD st p F → (∀ v ∈ F, ∀ c, v.getD c 0 < 5) → F.length ≤ most → (∀ x ∈ L, ord = true → ∀ c, c < x.1 → pc (x.2.2 c) = 1) → muV p.m L < μ → μ + 6000 ≤ fuel →
    ∃ F' st', S_X6_solutions_c64 fuel (i3 most) (bI ord) (i3 F.length) (encT L.length) st = some (i3 F'.length, st') ∧ frml [3, 4, 5, 6, 8, 9, 10] [7, 8, 9] st st' ∧ TC st' ∧ resV p ord most F' (F ++ restV p L) ∧ FD st' p F' := by
  intro μ
  induction μ with
  | zero => intro L F st fuel _ _ _ _ _ _ _ hmu _; exact absurd hmu (Nat.not_lt_zero _)
  | succ μ ih =>
    intro L F st fuel h hT hL hF hF5 hFm hord hmu hf
    have hok := h.1
    have hn := hok.n45
    have hm := hok.m24
    have h32 := pow_le hm.2.2
    have hnn := nn_le hn
    have hLn := nL_le hok
    have h12 := pow12 hok
    obtain ⟨f, rfl⟩ : ∃ k, fuel = k + 1 := ⟨fuel - 1, by omega⟩
    rw [S_X6_solutions_c64]
    cases L with
    | nil =>
      rw [if_pos (show encT ([] : List lvT).length < 0 by decide)]
      exact ⟨F, st, rfl, frml.rf, hT, ⟨hFm, [], simL.rf, fun _ => rfl⟩, hF⟩
    | cons x r =>
      obtain ⟨g, t, u⟩ := x
      obtain ⟨⟨a1, a2, a3, a4, a5, a6, a7, a8⟩, a9⟩ := hL
      have a1 : LVw st (75 + 25 * r.length) p.m u := a1
      have a2 : st.2.1 8 r.length = i3 g := a2
      have a3 : st.2.1 9 r.length = encT t := a3
      have a4 : g < p.n * p.n := a4
      have a5 : t ≤ p.m + 1 := a5
      have a6 : AC p u := a6
      have a7 : r.length + uns p u ≤ 25 := a7
      have a8 : pc (u g) ≠ 1 := a8
      have hup := uns_pos a4 a8
      have hel : encT (((g, t, u) : lvT) :: r).length = i3 r.length := rfl
      rw [hel]
      simp only [i3_neg_lt (a := r.length) (by omega), if_false, i3_le (a := most) (b := F.length) (by omega) (by omega)]
      by_cases hq : most ≤ F.length
      · rw [if_pos hq]
        exact ⟨F, st, rfl, frml.rf, hT, ⟨hFm, _, simL.rf, fun e => by omega⟩, hF⟩
      rw [if_neg hq]
      have el : (75 : Int32) + (25 : Int32) * i3 r.length = i3 (75 + 25 * r.length) := by
        have : (25 : Int32) * i3 r.length = i3 (25 * r.length) := i3_mul 25 r.length
        rw [this]; exact i3_add 75 _
      rw [el, onm_e, ob_e (by omega) (by decide), a3, encT_succ, onm_e]
      have hug := a1 g (by omega)
      obtain ⟨t', k1, k2, k3, k4, k5⟩ := c95_run (K := fun y16_1 y16_2 y16_3 y16_4 y16_5 y16_6 u17 => S_X6_solutions_j135 (S_X6_solutions_c64 f) f y16_1 y16_2 y16_3 y16_4 y16_5 y16_6 u17) (x1 := i3 most) (x2 := bI ord) (x3 := i3 F.length) h a2 hug.1 hug.2 (by omega) (by omega) _ t f rfl a5 (by omega)
      rw [k5]
      show ∃ F' st', S_X6_solutions_j135 _ f _ _ _ _ _ _ _ = _ ∧ _
      unfold S_X6_solutions_j135
      rw [ob_e (by omega) (by decide), onm_e]
      have hM1 : MV (mA st 9 r.length (i3 t')) p := h.to (mA_ne (by decide))
      simp only [hM1.2.2.1, i3_le (a := t') (b := p.m) (by omega) (by omega)]
      have hT1 : TC (mA st 9 r.length (i3 t')) := hT.to (mA_ne (by decide)) (mA_ne (by decide)) rfl rfl rfl
      have hmu2 : (p.m + 2 - t) * 7 ^ (25 - r.length) + muV p.m r < μ + 1 := hmu
      by_cases hq2 : t' ≤ p.m
      · rw [if_pos hq2]
        have hbit := k4 hq2
        have el2 : i3 (75 + 25 * r.length) + 25 = i3 (75 + 25 * (r.length + 1)) := by
          rw [show 75 + 25 * (r.length + 1) = 75 + 25 * r.length + 25 by omega]; exact i3_add _ 25
        have hA1 : LVw (mA st 9 r.length (i3 t')) (75 + 25 * r.length) p.m u := a1.to (mA_ne (by decide))
        obtain ⟨s1, b1, b2, b3, b4⟩ := S_layers hA1 (by omega) (b := 75 + 25 * (r.length + 1)) (by omega) (by omega) (fuel := f) (by omega)
        have esh : (1 : Int32) <<< (i3 t' &&& 31) = i3 (1 <<< t') := i3_shl (a := 1) (by omega)
        have hv : 1 <<< t' < 2 ^ (p.m + 1) := by rw [Nat.one_shiftLeft]; exact Nat.pow_lt_pow_right (by decide) (by omega)
        have e8 : s1.2.1 8 r.length = i3 g := by rw [b2.1 8 (by simp), mA_ne (by decide)]; exact a2
        have hU : LVw (mA s1 5 (75 + 25 * (r.length + 1) + g) (i3 (1 <<< t'))) (75 + 25 * (r.length + 1)) p.m (setC u g (1 <<< t')) := b3.set hv
        have hM2 : MV (mA s1 5 (75 + 25 * (r.length + 1) + g) (i3 (1 <<< t'))) p := (hM1.to (b2.1 0 (by simp))).to (mA_ne (by decide))
        have hT2 : TC (mA s1 5 (75 + 25 * (r.length + 1) + g) (i3 (1 <<< t'))) := hT1.to (by rw [mA_ne (by decide)]; exact b2.1 3 (by simp)) (by rw [mA_ne (by decide)]; exact b2.1 4 (by simp)) (b2.2.1 7 (by simp)) (b2.2.1 8 (by simp)) (b2.2.1 9 (by simp))
        have e8' : (mA s1 5 (75 + 25 * (r.length + 1) + g) (i3 (1 <<< t'))).2.1 8 r.length = i3 g := by rw [mA_ne (by decide)]; exact e8
        have hln := linesN_lt hn a4
        have hbl := bits_le hn hm.2.2 (fun c hc => (hU c hc).2)
        have hpl := pcL_le (linesN p g)
        have hac : ∀ l, l < p.nL → (linesN p g).testBit l = false → ACl p (setC u g (1 <<< t')) l := by
          intro l hl hb
          refine ACl_congr (fun k hk => ?_) (a6 l hl)
          refine setC_ne fun e => ?_
          have := (linesN_bit hn a4).mpr ⟨hl, k, hk, e⟩
          rw [this] at hb; cases hb
        obtain ⟨rr, s3, u', c1, c2, ⟨c3, -⟩, c4, c5, c6, c7, c8⟩ := S_closes (b := 75 + 25 * (r.length + 1)) (by omega) (13 * bitsN p.n (setC u g (1 <<< t')) + pcL (linesN p g) + 1) (setC u g (1 <<< t')) (linesN p g) _ f hM2 hT2 hU hln hac (by omega) (by omega)
        have hM3 : MV s3 p := hM2.to (c2.1 0 (by simp))
        have fr3 : frm [3, 4, 5, 6, 9] [7, 8, 9] st s3 := (((frm.rf.a (k := 9) (by simp)).trans (b2.mono (by simp) (by simp))).a (by simp)).trans (c2.mono (by simp) (by simp))
        have hF3 : FD s3 p F := by
          intro hne
          obtain ⟨d1, d2⟩ := hF hne
          exact ⟨fun c hc => by rw [fr3.1 10 (by simp)]; exact d1 c hc, by rw [fr3.2.2]; exact d2⟩
        have low5 : ∀ q, q < 75 + 25 * (r.length + 1) → s3.2.1 5 q = st.2.1 5 q := by
          intro q hq
          rw [c4 q (Or.inl hq), mA_eq, upd_ne (by omega), b4 q (Or.inl hq), mA_ne (by decide)]
        have e9 : s3.2.1 9 = upd (st.2.1 9) r.length (i3 t') := by
          rw [c2.1 9 (by simp), mA_ne (by decide), b2.1 9 (by simp), mA_eq]
        have e83 : s3.2.1 8 = st.2.1 8 := fr3.1 8 (by simp)
        -- the levels as they are now
        have hLS : LSV s3 p ord ((g, t' + 1, u) :: r) := by
          refine ⟨⟨?_, ?_, ?_, a4, by show t' + 1 ≤ p.m + 1; omega, a6, a7, a8⟩, ?_⟩
          · intro c hc
            show s3.2.1 5 (75 + 25 * r.length + c) = _ ∧ _
            rw [low5 _ (by omega)]; exact a1 c hc
          · rw [e83]; exact a2
          · rw [e9, upd_same]; rfl
          · exact a9.keep (fun q hq => low5 q (by omega)) (fun q hq => by rw [e83]) (fun q hq => by rw [e9, upd_ne (by omega)])
        have hrest : restV p ((g, t, u) :: r) = sols p (setC u g (1 <<< t')) ++ restV p ((g, t' + 1, u) :: r) := by
          show splitL p u g (thgF p.m (u g) t) ++ restV p r = sols p (setC u g (1 <<< t')) ++ (splitL p u g (thgF p.m (u g) (t' + 1)) ++ restV p r)
          rw [k3, thgF_yes hq2 hbit, ← List.append_assoc]
          rfl
        have hordc : ∀ x ∈ (((g, t' + 1, u) : lvT) :: r), ord = true → ∀ c, c < x.1 → pc (x.2.2 c) = 1 := by
          intro x hx
          rcases List.mem_cons.mp hx with rfl | hx
          · exact hord (g, t, u) List.mem_cons_self
          · exact hord x (List.mem_cons_of_mem _ hx)
        rw [el2, onm_e, b1, Option.bind_some, ob_e (by omega) (by decide), e8, i3_add, ob_e (by omega) (by decide), esh, onm_e, ob_e (by omega) (by decide), e8', S_linesOf hM2 a4, Option.bind_some]
        unfold S_X6_closes
        rw [c1, Option.bind_some]
        simp only [bI_eq0]
        have hml := muV_less (m := p.m) (len := r.length) k1 hq2
        cases rr with
        | false =>
          rw [if_pos rfl]
          obtain ⟨F', s', d1, d2, d3, d4, d5⟩ := ih ((g, t' + 1, u) :: r) F s3 f hM3 c3 hLS hF3 hF5 hFm hordc (by show (p.m + 2 - (t' + 1)) * 7 ^ (25 - r.length) + muV p.m r < μ; omega) (by omega)
          refine ⟨F', s', d1, (fr3.l.mono (by simp) (by simp)).trans d2, d3, ?_, d5⟩
          rw [hrest, sols_dead (c8 rfl), List.nil_append]
          exact d4
        | true =>
          rw [if_neg (by decide)]
          obtain ⟨c7a, c7b⟩ := c7 rfl
          have hu' : ∀ c, c < p.n * p.n → u' c < 2 ^ (p.m + 1) := fun c hc => (c5 c (by omega)).2
          have hS : sols p (setC u g (1 <<< t')) = sols p u' := (sols_close c6 c7b).symm
          rw [S_isDone hM3 c5 (by omega) (by omega), Option.bind_some]
          simp only [bI_eq0]
          have hun : uns p u' < uns p u := uns_lt hok (fun c hc => (a1 c (by omega)).2) hu' a4 hq2 a8 c6 c7a
          cases hd : doneB p u' with
          | true =>
            rw [if_neg (by decide)]
            have hd1 := doneB_iff.mp hd
            have hS2 : sols p u' = [vOf p u'] := sols_done hok hu' hd1 fun l hl => (c7a l hl).1
            obtain ⟨s4, g1, g2, g3⟩ := S_finds (n := f) (F := F) hM3 c5 (by omega) hF3 (fun hne c hc => by
              cases F with
              | nil => exact absurd rfl hne
              | cons a F => exact hF5 a List.mem_cons_self c) (by omega) (by omega)
            rw [g1, Option.bind_some, i3_succ]
            have hM4 : MV s4 p := hM3.to (g2.1 0 (by simp))
            have hT4 : TC s4 := c3.to (g2.1 3 (by simp)) (g2.1 4 (by simp)) (g2.2 7 (by simp)) (g2.2 8 (by simp)) (g2.2 9 (by simp))
            have hl4 : (F ++ [vOf p u']).length = F.length + 1 := by rw [List.length_append]; rfl
            obtain ⟨F', s', d1, d2, d3, d4, d5⟩ := ih ((g, t' + 1, u) :: r) (F ++ [vOf p u']) s4 f hM4 hT4 (hLS.keep (fun q _ => by rw [g2.1 5 (by simp)]) (fun q _ => by rw [g2.1 8 (by simp)]) (fun q _ => by rw [g2.1 9 (by simp)])) g3
              (fun v hv c => by
                rcases List.mem_append.mp hv with hv | hv
                · exact hF5 v hv c
                · rw [List.mem_singleton.mp hv]
                  rcases Nat.lt_or_ge c (p.n * p.n) with q | q
                  · rw [vOf_get q]; unfold onlyN; repeat' split
                    all_goals omega
                  · rw [List.getD_eq_getElem?_getD, List.getElem?_eq_none (by unfold vOf; rw [List.length_map, List.length_range]; exact q)]; decide)
              (by omega) hordc (by show (p.m + 2 - (t' + 1)) * 7 ^ (25 - r.length) + muV p.m r < μ; omega) (by omega)
            rw [hl4] at d1
            refine ⟨F', s', d1, ((fr3.l.mono (by simp) (by simp)).trans (g2.mono (by simp) (by simp))).trans d2, d3, ?_, d5⟩
            rw [hrest, hS, hS2, ← List.append_assoc]
            exact d4
          | false =>
            rw [if_pos rfl]
            obtain ⟨best, g1, g2⟩ := S_guess (n := f) (ord := ord) hM3 c5 (by omega) (by omega)
            cases best with
            | none =>
              exfalso
              have := doneB_iff.mpr (g2.1 rfl)
              rw [this] at hd; cases hd
            | some g' =>
              obtain ⟨g3, g4, g5⟩ := g2.2 g' rfl
              have o1 : i3 r.length + 1 = i3 (r.length + 1) := i3_succ _
              rw [g1, Option.bind_some, o1, ob_e (by omega) (by decide), onm_e, ob_e (by omega) (by decide), onm_e]
              have e9b : (-1 : Int32) = encT 0 := rfl
              have hq5 : (mA (mA s3 8 (r.length + 1) (encB (some g'))) 9 (r.length + 1) (-1)).2.1 5 = s3.2.1 5 := by rw [mA_ne (by decide), mA_ne (by decide)]
              have hq8 : (mA (mA s3 8 (r.length + 1) (encB (some g'))) 9 (r.length + 1) (-1)).2.1 8 = upd (s3.2.1 8) (r.length + 1) (i3 g') := by rw [mA_ne (by decide), mA_eq]; rfl
              have hq9 : (mA (mA s3 8 (r.length + 1) (encB (some g'))) 9 (r.length + 1) (-1)).2.1 9 = upd (s3.2.1 9) (r.length + 1) (encT 0) := by rw [mA_eq, mA_ne (by decide)]; rfl
              have hM4 : MV (mA (mA s3 8 (r.length + 1) (encB (some g'))) 9 (r.length + 1) (-1)) p := hM3.to (by rw [mA_ne (by decide), mA_ne (by decide)])
              have hT4 : TC (mA (mA s3 8 (r.length + 1) (encB (some g'))) 9 (r.length + 1) (-1)) := c3.to (by rw [mA_ne (by decide), mA_ne (by decide)]) (by rw [mA_ne (by decide), mA_ne (by decide)]) rfl rfl rfl
              have fr4 : frm [8, 9] [] s3 (mA (mA s3 8 (r.length + 1) (encB (some g'))) 9 (r.length + 1) (-1)) := (frm.rf.a (by simp)).a (by simp)
              have hF4 : FD (mA (mA s3 8 (r.length + 1) (encB (some g'))) 9 (r.length + 1) (-1)) p F := by
                intro hne
                obtain ⟨d1, d2⟩ := hF3 hne
                exact ⟨fun c hc => by rw [fr4.1 10 (by simp)]; exact d1 c hc, d2⟩
              have hms := muV_step (m := p.m) (len := r.length) hm.2.2 k1 hq2 (by omega)
              obtain ⟨F', s', d1, d2, d3, d4, d5⟩ := ih ((g', 0, u') :: (g, t' + 1, u) :: r) F _ f hM4 hT4
                ⟨⟨by intro c hc; rw [hq5]; exact c5 c hc, by rw [hq8]; exact upd_same, by rw [hq9]; exact upd_same, g3, Nat.zero_le _, c7a, by show r.length + 1 + uns p u' ≤ 25; omega, g4⟩, hLS.keep (fun q _ => by rw [hq5]) (fun q hq => by rw [hq8, upd_ne]; exact Nat.ne_of_lt hq) (fun q hq => by rw [hq9, upd_ne]; exact Nat.ne_of_lt hq)⟩
                hF4 hF5 hFm
                (fun x hx => by
                  rcases List.mem_cons.mp hx with rfl | hx
                  · exact g5
                  · exact hordc x hx)
                (by show (p.m + 2 - 0) * 7 ^ (25 - (r.length + 1)) + ((p.m + 2 - (t' + 1)) * 7 ^ (25 - r.length) + muV p.m r) < μ; rw [Nat.sub_zero]; omega) (by omega)
              refine ⟨F', s', d1, ((fr3.l.mono (by simp) (by simp)).trans (fr4.l.mono (by simp) (by simp))).trans d2, d3, ?_, d5⟩
              obtain ⟨d6, R, d7, d8⟩ := d4
              refine ⟨d6, R, d7.tr (simL.rf.ap ?_), d8⟩
              rw [hrest, hS]
              refine simL.ap ?_ simL.rf
              show simL ord (splitL p u' g' (thgF p.m (u' g') 0)) (sols p u')
              rw [thgF_0]
              exact ⟨sols_split g3, fun ho => sols_first hok g3 hu' (g5 ho)⟩
      · rw [if_neg hq2]
        have et : t' = p.m + 1 := by omega
        have hrest : restV p ((g, t, u) :: r) = restV p r := by
          show splitL p u g (thgF p.m (u g) t) ++ restV p r = _
          rw [k3, et, thgF_end]; rfl
        rw [encT_pred]
        have hmp := muV_pos (m := p.m) (len := r.length) a5
        obtain ⟨F', s', d1, d2, d3, d4, d5⟩ := ih r F _ f hM1 hT1 (a9.keep (fun q _ => by rw [mA_ne (by decide)]) (fun q _ => by rw [mA_ne (by decide)]) (fun q hq => by rw [mA_eq, upd_ne (by omega)])) (fun hne => by
          obtain ⟨d1, d2⟩ := hF hne
          exact ⟨fun c hc => by rw [mA_ne (by decide)]; exact d1 c hc, d2⟩) hF5 hFm (fun x hx => hord x (List.mem_cons_of_mem _ hx)) (by omega) (by omega)
        refine ⟨F', s', d1, (frml.rf.a (by simp)).trans d2, d3, ?_, d5⟩
        rw [hrest]; exact d4
/-- fuel enough for a search -/
def big7 (m fuel : Nat) : Prop := ∀ (g : Nat) (u : Nat → Nat), muV m [(g, 0, u)] + 1 + 6000 ≤ fuel
theorem S_solutions {st : MSt} {p : Pz} {ord : Bool} {most fuel : Nat} {w : Nat → Nat} (h : MV st p) (hT : TC st) (hw : CVw st p.m w) (hm0 : 0 < most) (hmost : most ≤ 1000) (hf : 10000 ≤ fuel) (hfu : big7 p.m fuel) :
    ∃ F st', S_X6_solutions fuel (i3 most) (bI ord) st = some (i3 F.length, st') ∧ frml [3, 4, 5, 6, 8, 9, 10] [7, 8, 9] st st' ∧ TC st' ∧ resV p ord most F (sols p w) ∧ FD st' p F := by
  have hok := h.1
  have hn := hok.n45
  have hm := hok.m24
  have hnn := nn_le hn
  have hLn := nL_le hok
  have hpp : 0 < 2 ^ p.nL := Nat.two_pow_pos _
  obtain ⟨s1, a1, a2, a3, a4⟩ := S_loads (p := p) (b := 75) (fuel := fuel) hw (by decide) (by omega)
  have a1' : S_X6_loads fuel 75 st = some s1 := a1
  have hM1 : MV s1 p := h.to (a2.1 0 (by simp))
  have hT1 : TC s1 := hT.to (a2.1 3 (by simp)) (a2.1 4 (by simp)) (a2.2.1 7 (by simp)) (a2.2.1 8 (by simp)) (a2.2.1 9 (by simp))
  have hbl := bits_le hn hm.2.2 (fun c hc => (hw c hc).2)
  have hpl := pcL_le (2 ^ p.nL - 1)
  obtain ⟨rr, s3, u', c1, c2, ⟨c3, -⟩, c4, c5, c6, c7, c8⟩ := S_closes (b := 75) (by decide) (13 * bitsN p.n w + pcL (2 ^ p.nL - 1) + 1) w (2 ^ p.nL - 1) _ fuel hM1 hT1 a3 (by omega) (fun l hl hb => by
    rw [Nat.testBit_two_pow_sub_one, decide_eq_true hl] at hb; cases hb) (by omega) (by omega)
  have c1' : S_X6_closes fuel 75 (i3 (2 ^ p.nL - 1)) s1 = some (bI rr, s3) := c1
  have hM3 : MV s3 p := hM1.to (c2.1 0 (by simp))
  have fr3 : frm [3, 4, 5, 6] [7, 8, 9] st s3 := (a2.mono (by simp) (by simp)).trans c2
  unfold S_X6_solutions
  rw [a1', Option.bind_some, S_allLines hM1, Option.bind_some, c1', Option.bind_some]
  simp only [bI_eq0]
  have hF0 : ∀ s, FD s p [] := fun s hne => absurd rfl hne
  cases rr with
  | false =>
    rw [if_pos rfl]
    refine ⟨[], s3, rfl, fr3.l.mono (by simp) (by simp), c3, ⟨Nat.zero_le _, [], ?_, fun _ => rfl⟩, hF0 _⟩
    rw [sols_dead (c8 rfl)]; exact simL.rf
  | true =>
    rw [if_neg (by decide)]
    obtain ⟨c7a, c7b⟩ := c7 rfl
    have hu' : ∀ c, c < p.n * p.n → u' c < 2 ^ (p.m + 1) := fun c hc => (c5 c (by omega)).2
    have hS : sols p w = sols p u' := (sols_close c6 c7b).symm
    have hdn : S_X6_isDone fuel 75 s3 = some (bI (doneB p u')) := S_isDone hM3 c5 (by decide) (by omega)
    rw [hdn, Option.bind_some]
    simp only [bI_eq0]
    cases hd : doneB p u' with
    | true =>
      rw [if_neg (by decide)]
      have hd1 := doneB_iff.mp hd
      have hS2 : sols p u' = [vOf p u'] := sols_done hok hu' hd1 fun l hl => (c7a l hl).1
      obtain ⟨s4, g1, g2, g3⟩ := S_finds (n := fuel) (F := []) hM3 c5 (by decide) (hF0 _) (fun hne => absurd rfl hne) (by decide) (by omega)
      have g1' : S_X6_finds fuel 75 0 s3 = some s4 := g1
      rw [g1', Option.bind_some]
      refine ⟨[vOf p u'], s4, rfl, (fr3.l.mono (by simp) (by simp)).trans (g2.mono (by simp) (by simp)), c3.to (g2.1 3 (by simp)) (g2.1 4 (by simp)) (g2.2 7 (by simp)) (g2.2 8 (by simp)) (g2.2 9 (by simp)), ⟨hm0, [], ?_, fun _ => rfl⟩, g3⟩
      rw [hS, hS2]; exact simL.rf
    | false =>
      rw [if_pos rfl]
      obtain ⟨best, g1, g2⟩ := S_guess (n := fuel) (ord := ord) hM3 c5 (by decide) (by omega)
      have g1' : S_X6_guess fuel 75 (bI ord) s3 = some (encB best) := g1
      rw [g1', Option.bind_some]
      cases best with
      | none =>
        exfalso
        have := doneB_iff.mpr (g2.1 rfl)
        rw [this] at hd; cases hd
      | some g' =>
        obtain ⟨g3, g4, g5⟩ := g2.2 g' rfl
        rw [onm_e, onm_e]
        have hq5 : (mA (mA s3 8 0 (encB (some g'))) 9 0 (-1)).2.1 5 = s3.2.1 5 := by rw [mA_ne (by decide), mA_ne (by decide)]
        have hq8 : (mA (mA s3 8 0 (encB (some g'))) 9 0 (-1)).2.1 8 = upd (s3.2.1 8) 0 (i3 g') := by rw [mA_ne (by decide), mA_eq]; rfl
        have hq9 : (mA (mA s3 8 0 (encB (some g'))) 9 0 (-1)).2.1 9 = upd (s3.2.1 9) 0 (encT 0) := by rw [mA_eq, mA_ne (by decide)]; rfl
        have hM4 : MV (mA (mA s3 8 0 (encB (some g'))) 9 0 (-1)) p := hM3.to (by rw [mA_ne (by decide), mA_ne (by decide)])
        have hT4 : TC (mA (mA s3 8 0 (encB (some g'))) 9 0 (-1)) := c3.to (by rw [mA_ne (by decide), mA_ne (by decide)]) (by rw [mA_ne (by decide), mA_ne (by decide)]) rfl rfl rfl
        have fr4 : frm [8, 9] [] s3 (mA (mA s3 8 0 (encB (some g'))) 9 0 (-1)) := (frm.rf.a (by simp)).a (by simp)
        obtain ⟨F', s', d1, d2, d3, d4, d5⟩ := S_solL (p := p) (ord := ord) hmost (muV p.m [(g', 0, u')] + 1) [(g', 0, u')] [] _ fuel hM4 hT4
          ⟨⟨by intro c hc; rw [hq5]; exact c5 c hc, by rw [hq8]; exact upd_same, by rw [hq9]; exact upd_same, g3, Nat.zero_le _, c7a, by have := uns_le hn u'; show 0 + uns p u' ≤ 25; omega, g4⟩, trivial⟩
          (hF0 _) (fun v hv => by cases hv) (Nat.zero_le _) (fun x hx => by rw [List.mem_singleton.mp hx]; exact g5)
          (Nat.lt_succ_self _) (hfu g' u')
        have d1' : S_X6_solutions_c64 fuel (i3 most) (bI ord) 0 0 (mA (mA s3 8 0 (encB (some g'))) 9 0 (-1)) = some (i3 F'.length, s') := d1
        refine ⟨F', s', d1', ((fr3.l.mono (by simp) (by simp)).trans (fr4.l.mono (by simp) (by simp))).trans d2, d3, ?_, d5⟩
        obtain ⟨d6, R, d7, d8⟩ := d4
        refine ⟨d6, R, d7.tr ?_, d8⟩
        rw [hS]
        show simL ord (splitL p u' g' (thgF p.m (u' g') 0) ++ []) (sols p u')
        rw [List.append_nil, thgF_0]
        exact ⟨sols_split g3, fun ho => sols_first hok g3 hu' (g5 ho)⟩
