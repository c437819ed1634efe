/-! the model's record over the heap; the words of shallow code -/
set_option maxRecDepth 100000
/-! shallow code: what may fail is none -/
def onm {α β : Type} (x : α) (K : α → Option β) : Option β := K x
theorem onm_a {α β : Type} {x y : α} {K : α → Option β} {r : β} (e : y = x) (h : onm x K = some r) : K y = some r := by subst e; exact h
def ob {β : Type} (i : Int32) (n : Nat) (K : Nat → Option β) : Option β := if i < 0 ∨ n ≤ i.toNatClampNeg then none else K i.toNatClampNeg
theorem ob_s {β : Type} {i : Int32} {n : Nat} {K : Nat → Option β} {r : β} (h : ob i n K = some r) : ∃ j : Nat, vp_in i n ∧ i.toNatClampNeg = j ∧ K j = some r := by
  unfold ob at h
  by_cases q : i < 0 ∨ n ≤ i.toNatClampNeg
  · rw [if_pos q] at h; cases h
  · rw [if_neg q] at h; exact ⟨_, q, rfl, h⟩
def odz {β : Type} (y : Int32) (K : Option β) : Option β := if y = 0 then none else K
theorem odz_s {β : Type} {y : Int32} {K : Option β} {r : β} (h : odz y K = some r) : ¬ y = 0 ∧ K = some r := by
  unfold odz at h
  by_cases q : y = 0
  · rw [if_pos q] at h; cases h
  · rw [if_neg q] at h; exact ⟨q, h⟩
def odn {β : Type} (y : UInt64) (K : Option β) : Option β := if y &&& 0x7fffffffffffffff ≤ 0x7ff0000000000000 then K else none
theorem odn_s {β : Type} {y : UInt64} {K : Option β} {r : β} (h : odn y K = some r) : vf_n64 y ∧ K = some r := by
  unfold odn at h
  by_cases q : y &&& 0x7fffffffffffffff ≤ 0x7ff0000000000000
  · rw [if_pos q] at h; exact ⟨q, h⟩
  · rw [if_neg q] at h; cases h
def onr {β : Type} (ty : FieldType) (v : Int32) (K : Option β) : Option β := if vp_nar ty v = v then K else none
theorem onr_s {β : Type} {ty : FieldType} {v : Int32} {K : Option β} {r : β} (h : onr ty v K = some r) : narrow ty (.int v) = .int v ∧ K = some r := by
  unfold onr at h
  by_cases q : vp_nar ty v = v
  · rw [if_pos q] at h
    refine ⟨?_, h⟩
    have e : narrow ty (.int v) = .int (vp_nar ty v) := by cases ty <;> rfl
    rw [e, q]
  · rw [if_neg q] at h; cases h
theorem it_t {β : Type} {c : Prop} {i : Decidable c} {A B : Option β} {r : β} (hc : c) (h : (@ite (Option β) c i A B) = some r) : A = some r := by rw [if_pos hc] at h; exact h
theorem it_f {β : Type} {c : Prop} {i : Decidable c} {A B : Option β} {r : β} (hc : ¬ c) (h : (@ite (Option β) c i A B) = some r) : B = some r := by rw [if_neg hc] at h; exact h
theorem vpc {i : Int32} {n : Nat} (h : decide (¬ (i < 0 ∨ n ≤ i.toNatClampNeg)) = true) : vp_in i n := by unfold vp_in; exact of_decide_eq_true h
section AWM
variable {l : Launch} {G : aG} {M : aM} {d mc ms : Nat} {P : aR → aH → Prop} {pc : Nat} {lv : List (Nat × Value)} {st rest : List Value} {h : aH} {c0 s0 : Nat}
theorem aw_topi {x : Int32} (k : ∀ y : Int32, y = x → AW l G M d mc ms P pc lv (.int y :: rest) h c0 s0) : AW l G M d mc ms P pc lv (.int x :: rest) h c0 s0 := k x rfl
theorem aw_topl {x : Int64} (k : ∀ y : Int64, y = x → AW l G M d mc ms P pc lv (.long y :: rest) h c0 s0) : AW l G M d mc ms P pc lv (.long x :: rest) h c0 s0 := k x rfl
theorem aw_topd {x : UInt64} (k : ∀ y : UInt64, y = x → AW l G M d mc ms P pc lv (.double y :: rest) h c0 s0) : AW l G M d mc ms P pc lv (.double x :: rest) h c0 s0 := k x rfl
theorem aw_ialdj {a n j : Nat} {f : Nat → Int32} {i : Int32} (he : h a = some (aInts .int n f)) (hin : vp_in i n) (hj : i.toNatClampNeg = j) (hd : decode M.2.1 pc = .ok (.iaload, 1)) (kk : AW l G M d mc ms P (pc + 1) lv (.int (f j) :: rest) h c0 s0) : AW l G M d mc ms P pc lv (.int i :: .ref a :: rest) h c0 s0 := by
  subst hj; exact aw_iald he hin hd kk
theorem aw_zaldj {a n j : Nat} {f : Nat → Int32} {i : Int32} (he : h a = some (aInts .boolean n f)) (hin : vp_in i n) (hj : i.toNatClampNeg = j) (hd : decode M.2.1 pc = .ok (.baload, 1)) (kk : AW l G M d mc ms P (pc + 1) lv (.int (f j) :: rest) h c0 s0) : AW l G M d mc ms P pc lv (.int i :: .ref a :: rest) h c0 s0 := by
  subst hj; exact aw_zald he hin hd kk
theorem aw_caldj {a n j : Nat} {f : Nat → Int32} {i : Int32} (he : h a = some (aInts .char n f)) (hin : vp_in i n) (hj : i.toNatClampNeg = j) (hd : decode M.2.1 pc = .ok (.caload, 1)) (kk : AW l G M d mc ms P (pc + 1) lv (.int (f j) :: rest) h c0 s0) : AW l G M d mc ms P pc lv (.int i :: .ref a :: rest) h c0 s0 := by
  subst hj; exact aw_cald he hin hd kk
theorem aw_iastj {a n j : Nat} {f : Nat → Int32} {i x : Int32} {h' : aH} (he : h a = some (aInts .int n f)) (hin : vp_in i n) (hj : i.toNatClampNeg = j) (hu : aUp h a (aInts .int n (upd f j x)) = h') (hd : decode M.2.1 pc = .ok (.iastore, 1)) (kk : AW l G M d mc ms P (pc + 1) lv rest h' c0 s0) : AW l G M d mc ms P pc lv (.int x :: .int i :: .ref a :: rest) h c0 s0 := by
  subst hj; exact aw_iast he hin hu hd kk
theorem aw_zastj {a n j : Nat} {f : Nat → Int32} {i x : Int32} {h' : aH} (he : h a = some (aInts .boolean n f)) (hin : vp_in i n) (hj : i.toNatClampNeg = j) (hu : aUp h a (aInts .boolean n (upd f j (vp_nar .boolean x))) = h') (hd : decode M.2.1 pc = .ok (.bastore, 1)) (kk : AW l G M d mc ms P (pc + 1) lv rest h' c0 s0) : AW l G M d mc ms P pc lv (.int x :: .int i :: .ref a :: rest) h c0 s0 := by
  subst hj; exact aw_zast he hin hu hd kk
theorem aw_castj {a n j : Nat} {f : Nat → Int32} {i x : Int32} {h' : aH} (he : h a = some (aInts .char n f)) (hin : vp_in i n) (hj : i.toNatClampNeg = j) (hu : aUp h a (aInts .char n (upd f j (vp_nar .char x))) = h') (hd : decode M.2.1 pc = .ok (.castore, 1)) (kk : AW l G M d mc ms P (pc + 1) lv rest h' c0 s0) : AW l G M d mc ms P pc lv (.int x :: .int i :: .ref a :: rest) h c0 s0 := by
  subst hj; exact aw_cast he hin hu hd kk
theorem aP1_rfl {v : Option Value} {h' : aH} : aP1 v h' (.inl v) h' := ⟨rfl, rfl⟩
theorem aP1_i {r : Int32} {h' : aH} {len : Nat} (k : AW l G M d mc ms P (pc + len) lv (.int r :: rest) h' c0 s0) : ∀ (w : Option Value) (h2 : aH), aP1 (some (.int r)) h' (.inl w) h2 → AW l G M d mc ms P (pc + len) lv (w.toList ++ rest) h2 (c0 + 0) (s0 + 0) := aP1_k k
theorem aP1_l {r : Int64} {h' : aH} {len : Nat} (k : AW l G M d mc ms P (pc + len) lv (.long r :: rest) h' c0 s0) : ∀ (w : Option Value) (h2 : aH), aP1 (some (.long r)) h' (.inl w) h2 → AW l G M d mc ms P (pc + len) lv (w.toList ++ rest) h2 (c0 + 0) (s0 + 0) := aP1_k k
theorem aP1_d {r : UInt64} {h' : aH} {len : Nat} (k : AW l G M d mc ms P (pc + len) lv (.double r :: rest) h' c0 s0) : ∀ (w : Option Value) (h2 : aH), aP1 (some (.double r)) h' (.inl w) h2 → AW l G M d mc ms P (pc + len) lv (w.toList ++ rest) h2 (c0 + 0) (s0 + 0) := aP1_k k
theorem aP1_v {h' : aH} {len : Nat} (k : AW l G M d mc ms P (pc + len) lv rest h' c0 s0) : ∀ (w : Option Value) (h2 : aH), aP1 none h' (.inl w) h2 → AW l G M d mc ms P (pc + len) lv (w.toList ++ rest) h2 (c0 + 0) (s0 + 0) := aP1_k k
end AWM
/-! a picture: n cells at the addresses ad 0, ad 1, .. over the heap h0 -/
def pic (ad : Nat → Nat) (E : Nat → aE) (h0 : aH) : Nat → aH
  | 0 => h0
  | n + 1 => aUp (pic ad E h0 n) (ad n) (E n)
abbrev pInj (n : Nat) (ad : Nat → Nat) : Prop := ∀ i j : Nat, i < n → j < n → ad i = ad j → i = j
theorem pic_get {ad : Nat → Nat} {E : Nat → aE} {h0 : aH} : ∀ {n k : Nat}, pInj n ad → k < n → pic ad E h0 n (ad k) = some (E k) := by
  intro n
  induction n with
  | zero => intro k _ hk; omega
  | succ n ih =>
    intro k hi hk
    show aUp _ _ _ _ = _
    unfold aUp
    by_cases e : ad k = ad n
    · have := hi k n hk (Nat.lt_succ_self n) e
      subst this
      rw [if_pos rfl]
    · rw [if_neg e]
      exact ih (fun i j a b => hi i j (by omega) (by omega)) (by rcases Nat.lt_or_ge k n with h | h; exact h; exact absurd (by rw [show k = n by omega]) e)
theorem pic_congr {ad : Nat → Nat} {E E' : Nat → aE} {h0 : aH} {q : Nat} : ∀ {n : Nat}, (∀ j, j < n → ad j = q → E j = E' j) → pic ad E h0 n q = pic ad E' h0 n q := by
  intro n
  induction n with
  | zero => intro _; rfl
  | succ n ih =>
    intro hE
    show aUp _ _ _ _ = aUp _ _ _ _
    unfold aUp
    by_cases e : q = ad n
    · rw [if_pos e, if_pos e, hE n (Nat.lt_succ_self n) e.symm]
    · rw [if_neg e, if_neg e]
      exact ih fun j hj hq => hE j (by omega) hq
theorem pic_up {ad : Nat → Nat} {E E' : Nat → aE} {h0 : aH} {n k : Nat} {e : aE} (hi : pInj n ad) (hk : k < n) (he : E' k = e) (hE : ∀ j, j ≠ k → E' j = E j) : aUp (pic ad E h0 n) (ad k) e = pic ad E' h0 n := by
  funext q
  unfold aUp
  by_cases h : q = ad k
  · rw [if_pos h, h, pic_get hi hk, he]
  · rw [if_neg h]
    exact pic_congr fun j hj hq => (hE j fun z => h (by rw [← hq, z])).symm
theorem pic_off {ad : Nat → Nat} {E : Nat → aE} {h0 : aH} {q : Nat} : ∀ {n : Nat}, (∀ j, j < n → ad j ≠ q) → pic ad E h0 n q = h0 q := by
  intro n
  induction n with
  | zero => intro _; rfl
  | succ n ih =>
    intro hq
    show aUp _ _ _ _ = _
    unfold aUp
    rw [if_neg (fun e => hq n (Nat.lt_succ_self n) e.symm)]
    exact ih fun j hj => hq j (by omega)
/-! the model: ints, arrays, the one long -/
abbrev MSt : Type := (Nat → Int32) × (Nat → Nat → Int32) × Int64
def mI (st : MSt) (k : Nat) (v : Int32) : MSt := (fun q => if q = k then v else st.1 q, st.2.1, st.2.2)
def mA (st : MSt) (k i : Nat) (v : Int32) : MSt := (st.1, fun q => if q = k then upd (st.2.1 k) i v else st.2.1 q, st.2.2)
def mJ (st : MSt) (v : Int64) : MSt := (st.1, st.2.1, v)
def mTy : Nat → FieldType
  | 1 => .boolean
  | 2 => .char
  | _ => .int
def mLen : Nat → Nat
  | 0 => 432 | 1 => 2 | 2 => 80 | 3 => 605 | 4 => 480 | 5 => 750 | 6 => 5 | 7 => 60 | 8 => 27 | 9 => 27 | 10 => 25 | 11 => 16 | _ => 16
def mF (ad : Nat → Nat) (st : MSt) : List Value := [.ref (ad 0), .int (st.1 0), .ref (ad 1), .ref (ad 2), .int (st.1 1), .int (st.1 2), .int (st.1 3), .int (st.1 4), .int (st.1 5), .int (st.1 6), .int (st.1 7), .int (st.1 8), .int (st.1 9), .ref (ad 3), .ref (ad 4), .ref (ad 5), .ref (ad 6), .ref (ad 7), .ref (ad 8), .ref (ad 9), .ref (ad 10), .long st.2.2, .ref (ad 11), .ref (ad 12)]
def mE (ad : Nat → Nat) (st : MSt) (j : Nat) : aE := if j = 13 then aObj 0 (mF ad st) else aInts (mTy j) (mLen j) (st.2.1 j)
abbrev mOk (ad : Nat → Nat) : Prop := pInj 14 ad
def mh (ad : Nat → Nat) (st : MSt) (h0 : aH) : aH := pic ad (mE ad st) h0 14
theorem mE_A {ad : Nat → Nat} {st : MSt} {k i : Nat} {v : Int32} {j : Nat} (h : j ≠ k) : mE ad (mA st k i v) j = mE ad st j := by
  simp [mE, mA, h, mF]
theorem mE_I {ad : Nat → Nat} {st : MSt} {k : Nat} {v : Int32} {j : Nat} (h : j ≠ 13) : mE ad (mI st k v) j = mE ad st j := by
  simp [mE, mI, h]
theorem mE_J {ad : Nat → Nat} {st : MSt} {v : Int64} {j : Nat} (h : j ≠ 13) : mE ad (mJ st v) j = mE ad st j := by
  simp [mE, mJ, h]
section MG
variable {ad : Nat → Nat} {st : MSt} {h0 : aH}
theorem mg_o (hok : mOk ad) : mh ad st h0 (ad 13) = some (.inr (0, mF ad st)) := pic_get hok (by decide)
theorem mu_same (hok : mOk ad) {v : Int64} : aUp (mh ad st h0) (ad 13) (.inr (0, (mF ad st).set 21 (.long v))) = mh ad (mJ st v) h0 := pic_up hok (by decide) rfl (fun j h => mE_J h)
theorem mg_0 (hok : mOk ad) : mh ad st h0 (ad 0) = some (aInts .int 432 (st.2.1 0)) := pic_get hok (by decide)
theorem mu_0 (hok : mOk ad) {i : Nat} {v : Int32} : aUp (mh ad st h0) (ad 0) (aInts .int 432 (upd (st.2.1 0) i v)) = mh ad (mA st 0 i v) h0 := pic_up hok (by decide) rfl (fun j h => mE_A h)
theorem mg_1 (hok : mOk ad) : mh ad st h0 (ad 1) = some (aInts .boolean 2 (st.2.1 1)) := pic_get hok (by decide)
theorem mu_1 (hok : mOk ad) {i : Nat} {v : Int32} : aUp (mh ad st h0) (ad 1) (aInts .boolean 2 (upd (st.2.1 1) i v)) = mh ad (mA st 1 i v) h0 := pic_up hok (by decide) rfl (fun j h => mE_A h)
theorem mg_2 (hok : mOk ad) : mh ad st h0 (ad 2) = some (aInts .char 80 (st.2.1 2)) := pic_get hok (by decide)
theorem mu_2 (hok : mOk ad) {i : Nat} {v : Int32} : aUp (mh ad st h0) (ad 2) (aInts .char 80 (upd (st.2.1 2) i v)) = mh ad (mA st 2 i v) h0 := pic_up hok (by decide) rfl (fun j h => mE_A h)
theorem mg_3 (hok : mOk ad) : mh ad st h0 (ad 3) = some (aInts .int 605 (st.2.1 3)) := pic_get hok (by decide)
theorem mu_3 (hok : mOk ad) {i : Nat} {v : Int32} : aUp (mh ad st h0) (ad 3) (aInts .int 605 (upd (st.2.1 3) i v)) = mh ad (mA st 3 i v) h0 := pic_up hok (by decide) rfl (fun j h => mE_A h)
theorem mg_4 (hok : mOk ad) : mh ad st h0 (ad 4) = some (aInts .int 480 (st.2.1 4)) := pic_get hok (by decide)
theorem mu_4 (hok : mOk ad) {i : Nat} {v : Int32} : aUp (mh ad st h0) (ad 4) (aInts .int 480 (upd (st.2.1 4) i v)) = mh ad (mA st 4 i v) h0 := pic_up hok (by decide) rfl (fun j h => mE_A h)
theorem mg_5 (hok : mOk ad) : mh ad st h0 (ad 5) = some (aInts .int 750 (st.2.1 5)) := pic_get hok (by decide)
theorem mu_5 (hok : mOk ad) {i : Nat} {v : Int32} : aUp (mh ad st h0) (ad 5) (aInts .int 750 (upd (st.2.1 5) i v)) = mh ad (mA st 5 i v) h0 := pic_up hok (by decide) rfl (fun j h => mE_A h)
theorem mg_6 (hok : mOk ad) : mh ad st h0 (ad 6) = some (aInts .int 5 (st.2.1 6)) := pic_get hok (by decide)
theorem mu_6 (hok : mOk ad) {i : Nat} {v : Int32} : aUp (mh ad st h0) (ad 6) (aInts .int 5 (upd (st.2.1 6) i v)) = mh ad (mA st 6 i v) h0 := pic_up hok (by decide) rfl (fun j h => mE_A h)
theorem mg_7 (hok : mOk ad) : mh ad st h0 (ad 7) = some (aInts .int 60 (st.2.1 7)) := pic_get hok (by decide)
theorem mu_7 (hok : mOk ad) {i : Nat} {v : Int32} : aUp (mh ad st h0) (ad 7) (aInts .int 60 (upd (st.2.1 7) i v)) = mh ad (mA st 7 i v) h0 := pic_up hok (by decide) rfl (fun j h => mE_A h)
theorem mg_8 (hok : mOk ad) : mh ad st h0 (ad 8) = some (aInts .int 27 (st.2.1 8)) := pic_get hok (by decide)
theorem mu_8 (hok : mOk ad) {i : Nat} {v : Int32} : aUp (mh ad st h0) (ad 8) (aInts .int 27 (upd (st.2.1 8) i v)) = mh ad (mA st 8 i v) h0 := pic_up hok (by decide) rfl (fun j h => mE_A h)
theorem mg_9 (hok : mOk ad) : mh ad st h0 (ad 9) = some (aInts .int 27 (st.2.1 9)) := pic_get hok (by decide)
theorem mu_9 (hok : mOk ad) {i : Nat} {v : Int32} : aUp (mh ad st h0) (ad 9) (aInts .int 27 (upd (st.2.1 9) i v)) = mh ad (mA st 9 i v) h0 := pic_up hok (by decide) rfl (fun j h => mE_A h)
theorem mg_10 (hok : mOk ad) : mh ad st h0 (ad 10) = some (aInts .int 25 (st.2.1 10)) := pic_get hok (by decide)
theorem mu_10 (hok : mOk ad) {i : Nat} {v : Int32} : aUp (mh ad st h0) (ad 10) (aInts .int 25 (upd (st.2.1 10) i v)) = mh ad (mA st 10 i v) h0 := pic_up hok (by decide) rfl (fun j h => mE_A h)
theorem mg_11 (hok : mOk ad) : mh ad st h0 (ad 11) = some (aInts .int 16 (st.2.1 11)) := pic_get hok (by decide)
theorem mu_11 (hok : mOk ad) {i : Nat} {v : Int32} : aUp (mh ad st h0) (ad 11) (aInts .int 16 (upd (st.2.1 11) i v)) = mh ad (mA st 11 i v) h0 := pic_up hok (by decide) rfl (fun j h => mE_A h)
theorem mg_12 (hok : mOk ad) : mh ad st h0 (ad 12) = some (aInts .int 16 (st.2.1 12)) := pic_get hok (by decide)
theorem mu_12 (hok : mOk ad) {i : Nat} {v : Int32} : aUp (mh ad st h0) (ad 12) (aInts .int 16 (upd (st.2.1 12) i v)) = mh ad (mA st 12 i v) h0 := pic_up hok (by decide) rfl (fun j h => mE_A h)
theorem mu_i0 (hok : mOk ad) {v : Int32} : aUp (mh ad st h0) (ad 13) (.inr (0, (mF ad st).set 1 (.int v))) = mh ad (mI st 0 v) h0 := pic_up hok (by decide) rfl (fun j h => mE_I h)
theorem mu_i1 (hok : mOk ad) {v : Int32} : aUp (mh ad st h0) (ad 13) (.inr (0, (mF ad st).set 4 (.int v))) = mh ad (mI st 1 v) h0 := pic_up hok (by decide) rfl (fun j h => mE_I h)
theorem mu_i2 (hok : mOk ad) {v : Int32} : aUp (mh ad st h0) (ad 13) (.inr (0, (mF ad st).set 5 (.int v))) = mh ad (mI st 2 v) h0 := pic_up hok (by decide) rfl (fun j h => mE_I h)
theorem mu_i3 (hok : mOk ad) {v : Int32} : aUp (mh ad st h0) (ad 13) (.inr (0, (mF ad st).set 6 (.int v))) = mh ad (mI st 3 v) h0 := pic_up hok (by decide) rfl (fun j h => mE_I h)
theorem mu_i4 (hok : mOk ad) {v : Int32} : aUp (mh ad st h0) (ad 13) (.inr (0, (mF ad st).set 7 (.int v))) = mh ad (mI st 4 v) h0 := pic_up hok (by decide) rfl (fun j h => mE_I h)
theorem mu_i5 (hok : mOk ad) {v : Int32} : aUp (mh ad st h0) (ad 13) (.inr (0, (mF ad st).set 8 (.int v))) = mh ad (mI st 5 v) h0 := pic_up hok (by decide) rfl (fun j h => mE_I h)
theorem mu_i6 (hok : mOk ad) {v : Int32} : aUp (mh ad st h0) (ad 13) (.inr (0, (mF ad st).set 9 (.int v))) = mh ad (mI st 6 v) h0 := pic_up hok (by decide) rfl (fun j h => mE_I h)
theorem mu_i7 (hok : mOk ad) {v : Int32} : aUp (mh ad st h0) (ad 13) (.inr (0, (mF ad st).set 10 (.int v))) = mh ad (mI st 7 v) h0 := pic_up hok (by decide) rfl (fun j h => mE_I h)
theorem mu_i8 (hok : mOk ad) {v : Int32} : aUp (mh ad st h0) (ad 13) (.inr (0, (mF ad st).set 11 (.int v))) = mh ad (mI st 8 v) h0 := pic_up hok (by decide) rfl (fun j h => mE_I h)
theorem mu_i9 (hok : mOk ad) {v : Int32} : aUp (mh ad st h0) (ad 13) (.inr (0, (mF ad st).set 12 (.int v))) = mh ad (mI st 9 v) h0 := pic_up hok (by decide) rfl (fun j h => mE_I h)
end MG
section AWN
variable {l : Launch} {G : aG} {M : aM} {d mc ms : Nat} {P : aR → aH → Prop} {pc : Nat} {lv : List (Nat × Value)} {stk : List Value} {ad : Nat → Nat} {h0 : aH} {c0 s0 : Nat}
theorem aw_st {st : MSt} (k : ∀ y : MSt, y = st → AW l G M d mc ms P pc lv stk (mh ad y h0) c0 s0) : AW l G M d mc ms P pc lv stk (mh ad st h0) c0 s0 := k st rfl
end AWN
