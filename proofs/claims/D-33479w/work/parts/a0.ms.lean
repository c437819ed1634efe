/-! the model's whole state, beside the component's
-/
set_option maxRecDepth 100000
theorem blk0 {st : MSt} {k : Nat} : blk st 0 k = st.2.1 0 k := by unfold blk; rw [Nat.mul_zero, Nat.zero_add]
/-- a block of 48 ints: a puzzle and its cells -/
def BV (st : MSt) (i : Nat) (s : stT) : Prop := okNM s.1.n s.1.m ∧ (blk st i 0 = i3 s.1.n ∧ blk st i 1 = i3 s.1.m ∧ blk st i 2 = i3 s.1.dg.toNat) ∧ (∀ e, e < 20 → blk st i (3 + e) = i3 (s.1.tl e) ∧ s.1.tl e ≤ 2 * s.1.m) ∧ ∀ c, c < 25 → blk st i (23 + c) = i3 (s.2 c) ∧ s.2 c < 2 ^ (s.1.m + 1)
theorem BV.to {a b : MSt} {i j : Nat} {s : stT} (h : BV a i s) (e : ∀ k, k < 48 → blk b j k = blk a i k) : BV b j s :=
  ⟨h.1, ⟨(e 0 (by decide)).trans h.2.1.1, (e 1 (by decide)).trans h.2.1.2.1, (e 2 (by decide)).trans h.2.1.2.2⟩, fun x hx => ⟨(e _ (by omega)).trans (h.2.2.1 x hx).1, (h.2.2.1 x hx).2⟩, fun c hc => ⟨(e _ (by omega)).trans (h.2.2.2 c hc).1, (h.2.2.2 c hc).2⟩⟩
theorem BV.mv {st : MSt} {s : stT} (h : BV st 0 s) : MV st s.1 := ⟨h.1, blk0.symm.trans h.2.1.1, blk0.symm.trans h.2.1.2.1, blk0.symm.trans h.2.1.2.2, fun e he => ⟨blk0.symm.trans (h.2.2.1 e he).1, (h.2.2.1 e he).2⟩⟩
theorem BV.cv {st : MSt} {s : stT} (h : BV st 0 s) : CVw st s.1.m s.2 := fun c hc => ⟨blk0.symm.trans (h.2.2.2 c hc).1, (h.2.2.2 c hc).2⟩
theorem BV.mk0 {st : MSt} {p : Pz} {w : Nat → Nat} (h : MV st p) (hw : CVw st p.m w) : BV st 0 (p, w) :=
  ⟨h.1, ⟨blk0.trans h.2.1, blk0.trans h.2.2.1, blk0.trans h.2.2.2.1⟩, fun e he => ⟨blk0.trans (h.2.2.2.2 e he).1, (h.2.2.2.2 e he).2⟩, fun c hc => ⟨blk0.trans (hw c hc).1, (hw c hc).2⟩⟩
def dST : stT := ((0, 0, false, fun _ => 0), fun _ => 0)
def MS (st : MSt) (S : ST) : Prop := TC st ∧ BV st 0 S.1 ∧ (st.1 0 = i3 S.2.1.length ∧ S.2.1.length ≤ 6 ∧ ∀ i, i < S.2.1.length → BV st (i + 1) (S.2.1.getD i dST)) ∧ (∀ i, i < 2 → (S.2.2.1 i = none → st.2.1 1 i = 0) ∧ ∀ s, S.2.2.1 i = some s → st.2.1 1 i = 1 ∧ BV st (7 + i) s) ∧ (st.1 1 = i3 S.2.2.2.length ∧ S.2.2.2.length ≤ 80 ∧ (∀ k, k < S.2.2.2.length → st.2.1 2 k = i3 (S.2.2.2.getD k 0)) ∧ ∀ c ∈ S.2.2.2, 33 ≤ c ∧ c ≤ 126)
section MSL
variable {a b st : MSt} {S : ST} {A I : List Nat}
theorem MS.tc (h : MS st S) : TC st := h.1
theorem MS.mv (h : MS st S) : MV st S.1.1 := h.2.1.mv
theorem MS.cv (h : MS st S) : CVw st S.1.1.m S.1.2 := h.2.1.cv
theorem MS.to (h : MS a S) (hT : TC b) (e0 : b.2.1 0 = a.2.1 0) (e1 : b.2.1 1 = a.2.1 1) (e2 : b.2.1 2 = a.2.1 2) (i0 : b.1 0 = a.1 0) (i1 : b.1 1 = a.1 1) : MS b S := by
  have eb : ∀ i k, blk b i k = blk a i k := fun i k => by unfold blk; rw [e0]
  obtain ⟨-, h1, ⟨h2, h3, h4⟩, h5, h6⟩ := h
  refine ⟨hT, h1.to fun k _ => eb 0 k, ⟨i0.trans h2, h3, fun i hi => (h4 i hi).to fun k _ => eb _ k⟩, fun i hi => ?_, by rw [i1, e2]; exact h6⟩
  rw [e1]
  exact ⟨(h5 i hi).1, fun s hs => ⟨((h5 i hi).2 s hs).1, ((h5 i hi).2 s hs).2.to fun k _ => eb _ k⟩⟩
theorem MS.fl (h : MS a S) (hf : frml A I a b) (hA : 0 ∉ A ∧ 1 ∉ A ∧ 2 ∉ A) (hI : 0 ∉ I ∧ 1 ∉ I) (hT : TC b) : MS b S := h.to hT (hf.1 0 hA.1) (hf.1 1 hA.2.1) (hf.1 2 hA.2.2) (hf.2 0 hI.1) (hf.2 1 hI.2)
theorem TC.mi {k : Nat} {v : Int32} (h : TC a) (hk : k < 7) : TC (mI a k v) := h.to rfl rfl (mI_ne (by omega)) (mI_ne (by omega)) (mI_ne (by omega))
theorem TC.ma {k i : Nat} {v : Int32} (h : TC a) (hk : k ≠ 3 ∧ k ≠ 4) : TC (mA a k i v) := h.to (mA_ne fun e => hk.1 e.symm) (mA_ne fun e => hk.2 e.symm) rfl rfl rfl
theorem MS.i {k : Nat} {v : Int32} (h : MS a S) (hk : 2 ≤ k ∧ k < 7) : MS (mI a k v) S := h.to (h.1.mi hk.2) rfl rfl rfl (mI_ne (by omega)) (mI_ne (by omega))
/-- what is now is another -/
theorem MS.now {s : stT} (h : MS a S) (hT : TC b) (hb : BV b 0 s) (e0 : ∀ i, 1 ≤ i → i ≤ 8 → ∀ k, k < 48 → blk b i k = blk a i k) (e1 : b.2.1 1 = a.2.1 1) (e2 : b.2.1 2 = a.2.1 2) (i0 : b.1 0 = a.1 0) (i1 : b.1 1 = a.1 1) : MS b (s, S.2) := by
  obtain ⟨-, h1, ⟨h2, h3, h4⟩, h5, h6⟩ := h
  refine ⟨hT, hb, ⟨i0.trans h2, h3, fun i hi => (h4 i hi).to (e0 _ (by omega) (by have h3' : S.2.1.length ≤ 6 := h3; have hi' : i < S.2.1.length := hi; omega))⟩, fun i hi => ?_, by rw [i1, e2]; exact h6⟩
  rw [e1]
  exact ⟨(h5 i hi).1, fun s hs => ⟨((h5 i hi).2 s hs).1, ((h5 i hi).2 s hs).2.to (e0 _ (by omega) (by omega))⟩⟩
theorem MS.rec {n : Nat} (h : MS st S) (hf : 80 ≤ n) : ∃ st', S_X6_records n st = some st' ∧ frm [0] [0] st st' ∧ MS st' (S.1, recL S.2.1 S.1, S.2.2) := by
  obtain ⟨hT, h1, ⟨h2, h3, h4⟩, h5, h6⟩ := h
  obtain ⟨s1, hist, S2⟩ := S
  change st.1 0 = i3 hist.length at h2
  change hist.length ≤ 6 at h3
  change ∀ i, i < hist.length → BV st (i + 1) (hist.getD i dST) at h4
  change BV st 0 s1 at h1
  obtain ⟨st', a1, a2, a3, a4⟩ := S_records (r := hist.length) h3 h2 hf
  have r0 : recI hist.length 0 = 0 := by unfold recI; split; · rfl
                                         · split <;> rfl
  have r7 : ∀ i, recI hist.length (7 + i) = 7 + i := fun i => by
    unfold recI
    by_cases q : hist.length = 6
    · rw [if_pos q, if_neg (by omega), if_neg (by omega)]
    · rw [if_neg q, if_neg (by omega)]
  refine ⟨st', a1, a2, hT.to (a2.1 3 (by simp)) (a2.1 4 (by simp)) (a2.2.1 7 (by simp)) (a2.2.1 8 (by simp)) (a2.2.1 9 (by simp)), ?_, ?_, fun i hi => ?_, ?_⟩
  · exact h1.to fun k hk => by rw [a4 0 (by decide) k hk, r0]
  · show st'.1 0 = i3 (recL hist s1).length ∧ (recL hist s1).length ≤ 6 ∧ ∀ i, i < (recL hist s1).length → BV st' (i + 1) ((recL hist s1).getD i dST)
    unfold recL
    by_cases q : hist.length = 6
    · have hl : (hist.tail ++ [s1]).length = 6 := by rw [List.length_append, List.length_tail, q]; rfl
      rw [if_pos q, hl]
      refine ⟨by rw [a3, q]; rfl, Nat.le_refl _, fun i hi => ?_⟩
      by_cases z : i < 5
      · have e : (hist.tail ++ [s1]).getD i dST = hist.getD (i + 1) dST := by
          rw [List.getD_eq_getElem?_getD, List.getElem?_append_left (by rw [List.length_tail, q]; omega), List.getElem?_tail, List.getD_eq_getElem?_getD]
        rw [e]
        refine (h4 (i + 1) (by omega)).to fun k hk => ?_
        rw [a4 _ (by omega) k hk, recI, if_pos q, if_neg (by omega), if_pos (by omega)]
      · have e : (hist.tail ++ [s1]).getD i dST = s1 := by
          rw [List.getD_eq_getElem?_getD, List.getElem?_append_right (by rw [List.length_tail, q]; omega), List.length_tail, q, show i - (6 - 1) = 0 by omega]; rfl
        rw [e]
        refine h1.to fun k hk => ?_
        rw [a4 _ (by omega) k hk, recI, if_pos q, if_pos (by omega)]
    · have hl : (hist ++ [s1]).length = hist.length + 1 := by rw [List.length_append]; rfl
      rw [if_neg q, hl]
      refine ⟨by rw [a3, Nat.min_eq_left (by omega)], by omega, fun i hi => ?_⟩
      by_cases z : i < hist.length
      · have e : (hist ++ [s1]).getD i dST = hist.getD i dST := by
          rw [List.getD_eq_getElem?_getD, List.getElem?_append_left z, List.getD_eq_getElem?_getD]
        rw [e]
        refine (h4 i z).to fun k hk => ?_
        rw [a4 _ (by omega) k hk, recI, if_neg q, if_neg (by omega)]
      · have e : (hist ++ [s1]).getD i dST = s1 := by
          rw [List.getD_eq_getElem?_getD, List.getElem?_append_right (by omega), show i - hist.length = 0 by omega]; rfl
        rw [e]
        refine h1.to fun k hk => ?_
        rw [a4 _ (by omega) k hk, recI, if_neg q, if_pos (by omega)]
  · rw [a2.1 1 (by simp)]
    refine ⟨(h5 i hi).1, fun s hs => ⟨((h5 i hi).2 s hs).1, ((h5 i hi).2 s hs).2.to fun k hk => ?_⟩⟩
    rw [a4 _ (by omega) k hk, r7]
  · rw [a2.1 2 (by simp), a2.2.1 1 (by simp)]; exact h6
/-- what the model answers, and its state behind it: Es lists the exceptions by the number that the model gives -/
def cdV (Es : List String) (A : aR) (y t : Int32) : Prop := (A = .inl (some (.int y)) ∧ t = 0) ∨ ∃ k, k < Es.length ∧ A = .inr (Es.getD k "") ∧ t = i3 (k + 1)
def mO (f : Nat → MSt → Option (Int32 × MSt)) (Es : List String) (O : aR × ST) (st : MSt) : Prop := ∃ n y st', f n st = some (y, st') ∧ MS st' O.2 ∧ cdV Es O.1 y (st'.1 2)
variable {f : Nat → MSt → Option (Int32 × MSt)} {Es : List String}
theorem mO_ok {A : aR} {y : Int32} {st' : MSt} (n : Nat) (e : f n st = some (y, st')) (hm : MS st' S) (h2 : st'.1 2 = 0) (ea : A = .inl (some (.int y))) : mO f Es (A, S) st := ⟨n, y, st', e, hm, Or.inl ⟨ea, h2⟩⟩
theorem mO_ex {E : String} {y : Int32} {st' : MSt} (n k : Nat) (e : f n st = some (y, st')) (hm : MS st' S) (hk : k < Es.length) (hE : Es.getD k "" = E) (h2 : st'.1 2 = i3 (k + 1)) : mO f Es (.inr E, S) st := ⟨n, y, st', e, hm, Or.inr ⟨k, hk, by rw [hE], h2⟩⟩
theorem S_told {x : Int32} : S_X6_told x st = some (x, mI st 2 0) := rfl
theorem S_goes1 {q : Bool} : S_X6_goes (bI q) 1 1 st = some (bI q, mI st 2 (if q then 0 else 1)) := by cases q <;> rfl
theorem S_goes2 {q r : Bool} : S_X6_goes (bI q) (bI r) 1 st = some (bI (q && r), mI st 2 (if q then (if r then 0 else 2) else 1)) := by cases q <;> cases r <;> rfl
theorem S_goes3 {q r s : Bool} : S_X6_goes (bI q) (bI r) (bI s) st = some (bI (q && r && s), mI st 2 (if q then (if r then (if s then 0 else 3) else 2) else 1)) := by cases q <;> cases r <;> cases s <;> rfl
theorem S_goes0 : S_X6_goes 0 1 1 st = some (0, mI st 2 1) := rfl
theorem S_goes11 : S_X6_goes 1 1 1 st = some (1, mI st 2 0) := rfl
theorem go_f {u : MSt} {K : Int32 × MSt → Option (Int32 × MSt)} : ((some (bI false, u)).bind fun q => if q.1 = 0 then some ((0 : Int32), q.2) else K q) = some (0, u) := rfl
theorem go_t {u : MSt} {K : Int32 × MSt → Option (Int32 × MSt)} : ((some (bI true, u)).bind fun q => if q.1 = 0 then some ((0 : Int32), q.2) else K q) = K (1, u) := rfl
theorem ob23 {β : Type} {c : Nat} (hc : c < 25) {K : Nat → Option β} : ob ((23 : Int32) + i3 c) 432 K = K (23 + c) := by rw [show (23 : Int32) = i3 23 from rfl, i3_add]; exact ob_e (by omega) (by decide)
theorem ob3 {β : Type} {c : Nat} (hc : c < 20) {K : Nat → Option β} : ob ((3 : Int32) + i3 c) 432 K = K (3 + c) := by rw [show (3 : Int32) = i3 3 from rfl, i3_add]; exact ob_e (by omega) (by decide)
section PZL
variable {p : Pz}
theorem S_isEdge (h : MV st p) {e : Int32} : S_X6_isEdge e st = some (bI (isI e (4 * p.n))) := by
  have hn := h.1.n45
  unfold S_X6_isEdge
  rw [S_edges h, Option.bind_some, S_in (by omega) (by omega), Option.bind_some, onr_b]
theorem S_isCell (h : MV st p) {e : Int32} : S_X6_isCell e st = some (bI (isI e (p.n * p.n))) := by
  have hn := h.1.n45
  have := nn_le hn
  have h0 : 0 < p.n * p.n := Nat.mul_pos (by omega) (by omega)
  unfold S_X6_isCell
  rw [S_cells h, Option.bind_some, S_in h0 (by omega), Option.bind_some, onr_b]
theorem S_isLine (h : MV st p) {e : Int32} : S_X6_isLine e st = some (bI (isI e p.nL)) := by
  have hn := h.1.n45
  have := nL_le h.1
  unfold S_X6_isLine
  rw [S_lines h, Option.bind_some, S_in (by omega) (by omega), Option.bind_some, onr_b]
theorem S_isLetter (h : MV st p) {e : Int32} : S_X6_isLetter e st = some (bI (isI e p.m)) := by
  have hm := h.1.m24
  unfold S_X6_isLetter
  rw [h.2.2.1, S_in (by omega) (by omega), Option.bind_some, onr_b]
theorem S_isThing (h : MV st p) {e : Int32} : S_X6_isThing e st = some (bI (isI e (p.m + 1))) := by
  have hm := h.1.m24
  have em : i3 p.m = i3 (p.m + 1) - 1 := (i3_pred (Nat.succ_pos _)).symm
  unfold S_X6_isThing
  rw [h.2.2.1, em, S_in (by omega) (by omega), Option.bind_some, onr_b]
theorem S_isPlace (h : MV st p) {e k : Int32} : S_X6_isPlace e k st = some (bI (isI e p.nL && isI k p.n)) := by
  have hn := h.1.n45
  unfold S_X6_isPlace
  rw [S_isLine h, Option.bind_some]
  cases isI e p.nL with
  | false => rfl
  | true =>
    rw [h.2.1, S_in (by omega) (by omega)]
    cases isI k p.n <;> rfl
end PZL
/-- one cell is another now -/
theorem MS.cell {c v : Nat} (h : MS st S) (hc : c < 25) (hv : v < 2 ^ (S.1.1.m + 1)) : MS (mA st 0 (23 + c) (i3 v)) (setW S (setC S.1.2 c v)) := by
  refine h.now (h.1.ma (by decide)) (BV.mk0 ?_ ?_) (fun i h1 h2 k hk => ?_) (mA_ne (by decide)) (mA_ne (by decide)) rfl rfl
  · obtain ⟨b1, b2, b3, b4, b5⟩ := h.mv
    refine ⟨b1, ?_, ?_, ?_, fun e he => ?_⟩
    · rw [mA_eq, upd_ne (by omega)]; exact b2
    · rw [mA_eq, upd_ne (by omega)]; exact b3
    · rw [mA_eq, upd_ne (by omega)]; exact b4
    · rw [mA_eq, upd_ne (by omega)]; exact b5 e he
  · intro d hd
    rw [mA_eq]
    unfold setC
    by_cases q : d = c
    · subst q; rw [upd_same, if_pos rfl]; exact ⟨rfl, hv⟩
    · rw [upd_ne (by omega), if_neg q]; exact h.cv d hd
  · show (mA st 0 _ _).2.1 0 _ = st.2.1 0 _
    rw [mA_eq, upd_ne (by omega)]
/-- one telling is another now -/
theorem MS.tell {e t : Nat} (h : MS st S) (he : e < 20) (ht : t ≤ 2 * S.1.1.m) : MS (mA st 0 (3 + e) (i3 t)) (setP S (S.1.1.setT e t)) := by
  refine h.now (h.1.ma (by decide)) (BV.mk0 (h.mv.tell ht) (h.cv.tell he)) (fun i h1 h2 k hk => ?_) (mA_ne (by decide)) (mA_ne (by decide)) rfl rfl
  show (mA st 0 _ _).2.1 0 _ = st.2.1 0 _
  rw [mA_eq, upd_ne (by omega)]
end MSL
