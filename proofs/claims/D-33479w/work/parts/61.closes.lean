/-! the model closes: what is left is consistent, or no consistent board lies below -/
set_option maxRecDepth 100000
theorem LVw.set {st : MSt} {b m c v : Nat} {u : Nat → Nat} (h : LVw st b m u) (hv : v < 2 ^ (m + 1)) : LVw (mA st 5 (b + c) (i3 v)) b m (fun x => if x = c then v else u x) := by
  intro x hx
  rw [mA_eq]
  show _ = i3 (if x = c then v else u x) ∧ (if x = c then v else u x) < _
  by_cases q : x = c
  · subst q; rw [if_pos rfl, upd_same]; exact ⟨rfl, hv⟩
  · rw [if_neg q, upd_ne (by omega)]; exact h x hx
theorem poss_lt {p : Pz} (hok : okNM p.n p.m) {u : Nat → Nat} {l k : Nat} : poss p u l k < 2 ^ (p.m + 1) := orAt_lt (fun r hr => (arrs_row hok (mem_fitL.mp hr).1).2.1) k
def cutI (p : Pz) (b l left : Nat) (u : Nat → Nat) (s1 : MSt) (j : Nat) (a : Nat × MSt) : Prop :=
  frm [5] [] s1 a.2 ∧ (∀ q, q < b ∨ b + 25 ≤ q → a.2.2.1 5 q = s1.2.1 5 q) ∧ ∃ uu : Nat → Nat, LVw a.2 b p.m uu ∧ (∀ k, k < j → uu (cellN p.n l k) = u (cellN p.n l k) &&& poss p u l k) ∧ (∀ c, c < 25 → (∀ k, k < j → cellN p.n l k ≠ c) → uu c = u c) ∧ a.1 < 2 ^ p.nL ∧
    ∀ l2, a.1.testBit l2 = true ↔ (clr left l).testBit l2 = true ∨ ∃ k, k < j ∧ uu (cellN p.n l k) ≠ u (cellN p.n l k) ∧ (clr (linesN p (cellN p.n l k)) l).testBit l2 = true
theorem S_cutline {s1 : MSt} {p : Pz} {b l left f : Nat} {u : Nat → Nat} {K : Int32 → Int32 → MSt → Option (Int32 × MSt)} (h : MV s1 p) (hu : LVw s1 b p.m u) (hb : b ≤ 725) (hl : l < p.nL) (hleft : left < 2 ^ p.nL) (h6 : ∀ k, k < p.n → s1.2.1 6 k = i3 (poss p u l k)) (hf : 10 ≤ f) :
    ∃ a, cutI p b l left u s1 p.n a ∧ S_X6_closes_c48 K f (i3 b) (i3 (clr left l)) (i3 l) 0 s1 = K (i3 b) (i3 a.1) a.2 := by
  have hok := h.1
  have hn := hok.n45
  have hL := nL_le hok
  have hm := hok.m24
  have h32 := pow_le hm.2.2
  refine st_run (F := fun f j (a : Nat × MSt) => S_X6_closes_c48 K f (i3 b) (i3 a.1) (i3 l) (i3 j) a.2) (K := fun a => K (i3 b) (i3 a.1) a.2) (I := cutI p b l left u s1) (N := p.n) (B := 0) ?_ ?_ 0 (Nat.zero_le _) f (clr left l, s1) (by omega) ⟨frm.rf, fun _ _ => rfl, u, hu, fun k hk => absurd hk (Nat.not_lt_zero _), fun _ _ _ => rfl, clr_lt hleft, fun l2 => ⟨Or.inl, fun q => q.elim id fun ⟨k, hk, _⟩ => absurd hk (Nat.not_lt_zero _)⟩⟩
  · intro f a _ ⟨h1, _⟩
    obtain ⟨lf, s⟩ := a
    have e0 : s.2.1 0 0 = i3 p.n := by rw [h1.1 0 (by simp)]; exact h.2.1
    show S_X6_closes_c48 K (f + 1) _ _ _ _ s = _
    rw [S_X6_closes_c48, e0]
    simp only [i3_le (a := p.n) (b := p.n) (by omega) (by omega), Nat.le_refl, if_true]
  · intro f j a hj _ ⟨h1, h2, uu, g1, g2, g3, g4, g5⟩
    obtain ⟨lf, s⟩ := a
    simp only at h1 h2 g1 g4 g5
    have hM : MV s p := h.to (h1.1 0 (by simp))
    have e6 : s.2.1 6 = s1.2.1 6 := h1.1 6 (by simp)
    have hcl := cellN_lt hn (by omega : l < 2 * p.n + 2) hj
    have hc25 : cellN p.n l j < 25 := Nat.lt_of_lt_of_le hcl (nn_le hn)
    have hne : ∀ k, k < j → cellN p.n l k ≠ cellN p.n l j := fun k hk e => by
      have := cell_inj hn (by omega : l < 2 * p.n + 2) (by omega : k < p.n) hj e; omega
    have huj : uu (cellN p.n l j) = u (cellN p.n l j) := g3 _ hc25 hne
    have hval := g1 _ hc25
    rw [huj] at hval
    have hul := hval.2
    have hpl := poss_lt (u := u) (l := l) (k := j) hok
    have hal : u (cellN p.n l j) &&& poss p u l j ≤ u (cellN p.n l j) := Nat.and_le_left
    have hq : ¬ p.n ≤ j := by omega
    have hne2 : ∀ k, k < j → k ≠ j := fun k hk => by omega
    show ∃ a', cutI p b l left u s1 (j + 1) a' ∧ S_X6_closes_c48 K (f + 1) _ _ _ _ s = _
    rw [S_X6_closes_c48, hM.2.1]
    simp only [i3_le (a := p.n) (b := j) (by omega) (by omega), hq, if_false]
    rw [S_cellAt hM (by omega) hj, Option.bind_some, i3_add, ob_e (by omega) (by decide), ob_e (by omega) (by decide), ob_e (by omega) (by decide), hval.1, e6, h6 j hj, i3_and]
    simp only [i3_eq (a := u (cellN p.n l j) &&& poss p u l j) (b := u (cellN p.n l j)) (by omega) (by omega)]
    by_cases hch : u (cellN p.n l j) &&& poss p u l j = u (cellN p.n l j)
    · rw [if_pos hch]
      refine ⟨(lf, s), ⟨h1, h2, uu, g1, fun k hk => ?_, fun c hc hk => g3 c hc fun k hk2 => hk k (by omega), g4, fun l2 => (g5 l2).trans ?_⟩, by rw [i3_succ]⟩
      · rcases Nat.lt_or_ge k j with q | q
        · exact g2 k q
        · have : k = j := by omega
          subst this
          rw [huj, hch]
      · constructor
        · rintro (q | ⟨k, q1, q2⟩)
          · exact Or.inl q
          · exact Or.inr ⟨k, by omega, q2⟩
        · rintro (q | ⟨k, q1, q2, q3⟩)
          · exact Or.inl q
          · refine Or.inr ⟨k, ?_, q2, q3⟩
            rcases Nat.lt_or_ge k j with q | q
            · exact q
            · have : k = j := by omega
              subst this
              exact absurd huj q2
    · rw [if_neg hch]
      have hMu : MV (mA s 5 (b + cellN p.n l j) (i3 (u (cellN p.n l j) &&& poss p u l j))) p := hM.to (mA_ne (by decide))
      have ecl : i3 (linesN p (cellN p.n l j)) &&& (((1 : Int32) <<< (i3 l &&& 31)) ^^^ ((-1) : Int32)) = i3 (clr (linesN p (cellN p.n l j)) l) := i3_clr (by omega)
      rw [ob_e (by omega) (by decide), ob_e (by omega) (by decide), ob_e (by omega) (by decide), onm_e, hval.1, h6 j hj, i3_and, S_linesOf hMu hcl, Option.bind_some, ecl, i3_or, onm_e]
      refine ⟨(lf ||| clr (linesN p (cellN p.n l j)) l, mA s 5 (b + cellN p.n l j) (i3 (u (cellN p.n l j) &&& poss p u l j))), ⟨h1.a (by simp), fun q hq2 => ?_, fun x => if x = cellN p.n l j then u (cellN p.n l j) &&& poss p u l j else uu x, g1.set (by omega), fun k hk => ?_, fun c hc hk => ?_, ?_, fun l2 => ?_⟩, by rw [i3_succ]⟩
      · show (mA s 5 _ _).2.1 5 q = _
        rw [mA_eq, upd_ne (by omega)]; exact h2 q hq2
      · rcases Nat.lt_or_ge k j with q | q
        · show (if cellN p.n l k = cellN p.n l j then _ else _) = _
          rw [if_neg (hne k q)]; exact g2 k q
        · have : k = j := by omega
          subst this
          exact if_pos rfl
      · show (if c = cellN p.n l j then _ else _) = _
        rw [if_neg (fun e => hk j (by omega) e.symm)]
        exact g3 c hc fun k hk2 => hk k (by omega)
      · exact Nat.or_lt_two_pow g4 (clr_lt (linesN_lt hn hcl))
      · show (lf ||| clr (linesN p (cellN p.n l j)) l).testBit l2 = true ↔ _
        rw [Nat.testBit_or, Bool.or_eq_true, g5 l2]
        constructor
        · rintro ((q | ⟨k, q1, q2, q3⟩) | q)
          · exact Or.inl q
          · refine Or.inr ⟨k, by omega, ?_, q3⟩
            show (if cellN p.n l k = cellN p.n l j then _ else _) ≠ _
            rw [if_neg (hne k q1)]; exact q2
          · refine Or.inr ⟨j, by omega, ?_, q⟩
            show (if cellN p.n l j = cellN p.n l j then _ else _) ≠ _
            rw [if_pos rfl]; exact hch
        · rintro (q | ⟨k, q1, q2, q3⟩)
          · exact Or.inl (Or.inl q)
          · rcases Nat.lt_or_ge k j with q | q
            · refine Or.inl (Or.inr ⟨k, q, ?_, q3⟩)
              have q2' : (if cellN p.n l k = cellN p.n l j then u (cellN p.n l j) &&& poss p u l j else uu (cellN p.n l k)) ≠ u (cellN p.n l k) := q2
              rwa [if_neg (hne k q)] at q2'
            · have : k = j := by omega
              subst this
              exact Or.inr q3
theorem isCut_of {p : Pz} {b l left : Nat} {u : Nat → Nat} {s1 : MSt} {a : Nat × MSt} (hok : okNM p.n p.m) {uu : Nat → Nat} (g2 : ∀ k, k < p.n → uu (cellN p.n l k) = u (cellN p.n l k) &&& poss p u l k) (g3 : ∀ c, c < 25 → (∀ k, k < p.n → cellN p.n l k ≠ c) → uu c = u c) : isCut p u uu l :=
  ⟨g2, fun c hc hk => g3 c (Nat.lt_of_lt_of_le hc (nn_le hok.n45)) hk⟩
theorem pow12 {p : Pz} (hok : okNM p.n p.m) : 2 ^ p.nL ≤ 4096 := by
  have := nL_le hok
  exact Nat.pow_le_pow_right (n := 2) (by decide) this.1
theorem S_closes {p : Pz} {b : Nat} (hb : b ≤ 725) : ∀ (μ : Nat) (u : Nat → Nat) (left : Nat) (st : MSt) (fuel : Nat), MV st p → TC st → LVw st b p.m u → left < 2 ^ p.nL → (∀ l, l < p.nL → left.testBit l = false → ACl p u l) → 13 * bitsN p.n u + pcL left < μ → μ + 3300 ≤ fuel →
    ∃ r st' u', S_X6_closes_c2 fuel (i3 b) (i3 left) st = some (bI r, st') ∧ frm [3, 4, 5, 6] [7, 8, 9] st st' ∧ (TC st' ∧ (TV st p.n p.m ∨ left ≠ 0 → TV st' p.n p.m)) ∧ (∀ q, q < b ∨ b + 25 ≤ q → st'.2.1 5 q = st.2.1 5 q) ∧ LVw st' b p.m u' ∧ leW p u' u ∧ (r = true → AC p u' ∧ ∀ v, AC p v → leW p v u → leW p v u') ∧ (r = false → ¬ live p u) := by
  intro μ
  induction μ with
  | zero => intro u left st fuel h hT hu hleft hac hmu hf; exact absurd hmu (Nat.not_lt_zero _)
  | succ μ ih =>
    intro u left st fuel h hT hu hleft hac hmu hf
    have hok := h.1
    have hn := hok.n45
    have hL := nL_le hok
    have h12 := pow12 hok
    have hm := hok.m24
    have h32 := pow_le hm.2.2
    obtain ⟨f, rfl⟩ : ∃ k, fuel = k + 1 := ⟨fuel - 1, by omega⟩
    have ez : (i3 left = 0) = (left = 0) := i3_eq (b := 0) (by omega) (by decide)
    rw [S_X6_closes_c2]
    simp only [ez]
    by_cases hz : left = 0
    · rw [if_pos hz]
      subst hz
      exact ⟨true, st, u, rfl, frm.rf, ⟨hT, fun hv => hv.resolve_right fun h => h rfl⟩, fun _ _ => rfl, hu, leW.rf, fun _ => ⟨fun l hl => hac l hl (Nat.zero_testBit l), fun v _ h => h⟩, fun h => by cases h⟩
    · rw [if_neg hz]
      obtain ⟨n1, n2, n3⟩ := ntz_spec hz (by omega : left < 4096)
      generalize hlN : ntz left = l at n1 n2 n3
      have hlL : l < p.nL := by
        rcases Nat.lt_or_ge l p.nL with q | q
        · exact q
        · have := Nat.testBit_lt_two_pow (Nat.lt_of_lt_of_le hleft (Nat.pow_le_pow_right (n := 2) (by decide) q))
          rw [this] at n1; cases n1
      -- the search for the line
      have hfind : ∀ (K : Int32 → Int32 → Int32 → MSt → Option (Int32 × MSt)), S_X6_closes_c9 K f (i3 b) (i3 left) 0 st = K (i3 b) (i3 left) (i3 l) st := by
        intro K
        have k1 := vloop (N := l) (T := fun j => ∀ f', l - j + 1 ≤ f' → S_X6_closes_c9 K f' (i3 b) (i3 left) (i3 j) st = K (i3 b) (i3 left) (i3 l) st) ?_ ?_ 0 (Nat.zero_le _) f (by omega)
        · exact k1
        · intro f' hf'
          obtain ⟨f', rfl⟩ : ∃ k, f' = k + 1 := ⟨f' - 1, by omega⟩
          rw [S_X6_closes_c9, i3_has (by omega) (by omega)]
          simp only [bI_eq0]
          rw [if_neg (by show ¬ left.testBit l = false; rw [n1]; decide)]
        · intro j hj ih2 f' hf'
          obtain ⟨f', rfl⟩ : ∃ k, f' = k + 1 := ⟨f' - 1, by omega⟩
          rw [S_X6_closes_c9, i3_has (by omega) (by omega)]
          simp only [bI_eq0]
          rw [if_pos (by show left.testBit j = false; exact n3 j hj), i3_succ]
          exact ih2 f' (by omega)
      rw [hfind]
      have ecl : i3 left &&& (((1 : Int32) <<< (i3 l &&& 31)) ^^^ ((-1) : Int32)) = i3 (clr left l) := i3_clr (by omega)
      rw [ecl, onm_e]
      obtain ⟨s1, g1, g2, g3, g4⟩ := S_looks h hT hu hb (l := l) (by omega) (fuel := f) (by omega)
      have hlen : (fitL p u l).length ≤ 120 := by
        unfold fitL
        exact Nat.le_trans (List.length_filter_le _ _) (arrs_len hok)
      have e3 : (i3 (fitL p u l).length = 0) = ((fitL p u l).length = 0) := i3_eq (b := 0) (by omega) (by decide)
      rw [g1, Option.bind_some]
      simp only [e3]
      have hM1 : MV s1 p := h.to (g2.1 0 (by simp))
      have hU1 : LVw s1 b p.m u := hu.to (g2.1 5 (by simp))
      have e5 : s1.2.1 5 = st.2.1 5 := g2.1 5 (by simp)
      by_cases q : (fitL p u l).length = 0
      · rw [if_pos q]
        have hbr : brk p u l = true := by unfold brk; rw [List.isEmpty_iff]; exact List.length_eq_zero_iff.mp q
        exact ⟨false, s1, u, rfl, g2.mono (by simp) (by simp), ⟨Or.inr ⟨_, _, g3⟩, fun _ => g3⟩, fun q _ => by rw [e5], hU1, leW.rf, fun h => (by cases h), fun _ => dead_of hok (fun v _ h => h) hlL hbr⟩
      · rw [if_neg q]
        have hbr : brk p u l = false := by
          unfold brk
          cases hx : (fitL p u l).isEmpty with
          | false => rfl
          | true => exact absurd (List.length_eq_zero_iff.mpr (List.isEmpty_iff.mp hx)) q
        obtain ⟨⟨lf, s2⟩, ⟨k1, k2, uu, k3, k4, k5, k6, k7⟩, k8⟩ := S_cutline (K := fun y7_1 y7_3 u8 => S_X6_closes_c2 f y7_1 y7_3 u8) (left := left) hM1 hU1 hb hlL hleft g4 (f := f) (by omega)
        simp only at k1 k2 k3 k4 k5 k6 k7 k8
        rw [k8]
        have hcut : isCut p u uu l := ⟨k4, fun c hc hk => k5 c (Nat.lt_of_lt_of_le hc (nn_le hn)) hk⟩
        have hM2 : MV s2 p := hM1.to (k1.1 0 (by simp))
        have hV2 : TV s2 p.n p.m := g3.to (k1.1 3 (by simp)) (k1.1 4 (by simp)) (k1.2.1 7 (by simp)) (k1.2.1 8 (by simp)) (k1.2.1 9 (by simp))
        have hT2 : TC s2 := Or.inr ⟨_, _, hV2⟩
        -- the measure
        have hb1 : ∀ c, c < p.n * p.n → uu c = u c ∨ ∃ k, k < p.n ∧ cellN p.n l k = c ∧ uu c = u c &&& poss p u l k := by
          intro c hc
          by_cases z : ∃ k, k < p.n ∧ cellN p.n l k = c
          · obtain ⟨k, hk, e⟩ := z
            exact Or.inr ⟨k, hk, e, by rw [← e]; exact hcut.1 k hk⟩
          · exact Or.inl (hcut.2 c hc fun k hk e => z ⟨k, hk, e⟩)
        have hub : ∀ c, c < p.n * p.n → u c < 32 := fun c hc => Nat.lt_of_lt_of_le (hu c (Nat.lt_of_lt_of_le hc (nn_le hn))).2 h32
        have hpb : ∀ k, poss p u l k < 32 := fun k => Nat.lt_of_lt_of_le (poss_lt hok) h32
        have hsl : ∀ c, c < p.n * p.n → pc (uu c) ≤ pc (u c) ∧ (uu c ≠ u c → pc (uu c) < pc (u c)) := by
          intro c hc
          rcases hb1 c hc with e | ⟨k, hk, e1, e2⟩
          · rw [e]; exact ⟨Nat.le_refl _, fun z => absurd rfl z⟩
          · rw [e2]; exact pc_and ⟨u c, hub c hc⟩ ⟨poss p u l k, hpb k⟩
        have hle : bitsN p.n uu ≤ bitsN p.n u := sum_le fun c hc => (hsl c (List.mem_range.mp hc)).1
        have hmeas : 13 * bitsN p.n uu + pcL lf < 13 * bitsN p.n u + pcL left := by
          by_cases z : ∃ c, c < p.n * p.n ∧ uu c ≠ u c
          · obtain ⟨c, hc, hz2⟩ := z
            have : bitsN p.n uu < bitsN p.n u := sum_lt (fun c hc => (hsl c (List.mem_range.mp hc)).1) ⟨c, List.mem_range.mpr hc, (hsl c hc).2 hz2⟩
            have := pcL_le lf
            omega
          · have heq : lf = clr left l := by
              apply Nat.eq_of_testBit_eq
              intro i
              rw [Bool.eq_iff_iff, k7 i]
              constructor
              · rintro (y | ⟨k, y1, y2, _⟩)
                · exact y
                · exact absurd ⟨_, cellN_lt hn (by omega) y1, y2⟩ z
              · exact Or.inl
            rw [heq]
            have := pcL_clr n2 n1
            omega
        -- the lines that are not left
        have hac2 : ∀ l2, l2 < p.nL → lf.testBit l2 = false → ACl p uu l2 := by
          intro l2 hl2 hz2
          have hno : ¬ ((clr left l).testBit l2 = true ∨ ∃ k, k < p.n ∧ uu (cellN p.n l k) ≠ u (cellN p.n l k) ∧ (clr (linesN p (cellN p.n l k)) l).testBit l2 = true) := by
            rw [← k7 l2, hz2]; decide
          by_cases e : l2 = l
          · subst e; exact hcut.own hbr
          · have hnl : left.testBit l2 = false := by
              cases y : left.testBit l2 with
              | false => rfl
              | true => exact absurd (Or.inl (by rw [clr_bit, y]; simp [e])) hno
            refine ACl_congr (fun k2 hk2 => ?_) (hac l2 hl2 hnl)
            have hc2 := cellN_lt hn (by omega : l2 < 2 * p.n + 2) hk2
            rcases hb1 _ hc2 with y | ⟨k, hk, e1, e2⟩
            · exact y
            · by_cases y : uu (cellN p.n l2 k2) = u (cellN p.n l2 k2)
              · exact y
              · exfalso
                apply hno
                refine Or.inr ⟨k, hk, by rw [e1]; exact y, ?_⟩
                rw [clr_bit, Bool.and_eq_true]
                exact ⟨(linesN_bit hn (by rw [e1]; exact hc2)).mpr ⟨hl2, k2, hk2, e1.symm⟩, by simp [e]⟩
        obtain ⟨r, st', u', t1, t2, t3, t4, t5, t6, t7, t8⟩ := ih uu lf s2 f hM2 hT2 k3 k6 hac2 (by omega) (by omega)
        refine ⟨r, st', u', t1, ((g2.mono (by simp) (by simp)).trans (k1.mono (by simp) (by simp))).trans t2, ⟨t3.1, fun _ => t3.2 (Or.inl hV2)⟩, fun q hq => by rw [t4 q hq, k2 q hq, e5], t5, t6.trans hcut.le, fun hr => ⟨(t7 hr).1, fun v hv hvu => (t7 hr).2 v hv (hcut.keep hok hlL hv hvu)⟩, fun hr hlive => ?_⟩
        obtain ⟨v, hvu, hv⟩ := hlive
        exact t8 hr ⟨v, hcut.keep hok hlL hv hvu, hv⟩
