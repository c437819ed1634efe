/-! the model's states: copies, records -/
set_option maxRecDepth 100000
def blk (st : MSt) (i k : Nat) : Int32 := st.2.1 0 (48 * i + k)
theorem S_copies {st : MSt} {a b n : Nat} (ha : a ≤ 8) (hb : b ≤ 8) (hab : a ≠ b) (hf : 50 ≤ n) : ∃ st', S_X6_copies n (i3 a) (i3 b) st = some st' ∧ frm [0] [] st st' ∧ (∀ k, k < 48 → blk st' b k = blk st a k) ∧ ∀ i, i ≠ b → ∀ k, k < 48 → blk st' i k = blk st i k := by
  have hne : ∀ i k j, i ≠ b → k < 48 → j < 48 → 48 * i + k ≠ 48 * b + j := by intro i k j h1 h2 h3; omega
  unfold S_X6_copies
  have key := st_loop (F := fun f j s => S_X6_copies_c2 f (i3 a) (i3 b) (i3 j) s)
    (I := fun j s => frm [0] [] st s ∧ (∀ k, k < j → blk s b k = blk st a k) ∧ ∀ i, i ≠ b → ∀ k, k < 48 → blk s i k = blk st i k)
    (Q := fun s => frm [0] [] st s ∧ (∀ k, k < 48 → blk s b k = blk st a k) ∧ ∀ i, i ≠ b → ∀ k, k < 48 → blk s i k = blk st i k) (N := 48) (B := 0) ?_ ?_ 0 (Nat.zero_le _) n st (by omega) ⟨frm.rf, fun k h => absurd h (Nat.not_lt_zero _), fun _ _ _ _ => rfl⟩
  · exact key
  · intro f s _ ⟨h1, h2, h3⟩
    show ∃ r, S_X6_copies_c2 (f + 1) _ _ _ _ = some r ∧ _
    rw [S_X6_copies_c2]
    exact ⟨s, if_pos (by decide), h1, h2, h3⟩
  · intro f j s hj _ ⟨h1, h2, h3⟩
    have e5 : ((48 : Int32) ≤ i3 j) = (48 ≤ j) := i3_le (a := 48) (by decide) (by omega)
    have hq : ¬ 48 ≤ j := by omega
    have o1 : (48 : Int32) * i3 a + i3 j = i3 (48 * a + j) := by rw [show (48 : Int32) = i3 48 from rfl, i3_mul, i3_add]
    have o2 : (48 : Int32) * i3 b + i3 j = i3 (48 * b + j) := by rw [show (48 : Int32) = i3 48 from rfl, i3_mul, i3_add]
    have hv : s.2.1 0 (48 * a + j) = blk st a j := h3 a hab j hj
    refine ⟨mA s 0 (48 * b + j) (blk st a j), ⟨h1.a (by simp), fun k hk => ?_, fun i hi k hk => ?_⟩, ?_⟩
    · show (mA s 0 _ _).2.1 0 (48 * b + k) = _
      rw [mA_eq]
      rcases Nat.lt_or_ge k j with q | q
      · rw [upd_ne (by omega)]; exact h2 k q
      · have : k = j := by omega
        subst this
        rw [upd_same]
    · show (mA s 0 _ _).2.1 0 (48 * i + k) = _
      rw [mA_eq, upd_ne (hne i k j hi hk hj)]; exact h3 i hi k hk
    · show S_X6_copies_c2 (f + 1) _ _ _ _ = _
      rw [S_X6_copies_c2]
      simp only [e5, hq, if_false]
      rw [o1, ob_e (by omega) (by decide), o2, ob_e (by omega) (by decide), onm_e, hv, i3_succ]
/-- after a record: how many, and which states -/
def recI (r i : Nat) : Nat := if r = 6 then (if i = 6 then 0 else if 1 ≤ i ∧ i ≤ 5 then i + 1 else i) else (if i = r + 1 then 0 else i)
theorem S_records {st : MSt} {r n : Nat} (hr : r ≤ 6) (h0 : st.1 0 = i3 r) (hf : 80 ≤ n) : ∃ st', S_X6_records n st = some st' ∧ frm [0] [0] st st' ∧ st'.1 0 = i3 (min (r + 1) 6) ∧ ∀ i, i ≤ 8 → ∀ k, k < 48 → blk st' i k = blk st (recI r i) k := by
  unfold S_X6_records
  have e6 : (i3 r = 6) = (r = 6) := i3_eq (b := 6) (by omega) (by decide)
  rw [h0]
  simp only [e6]
  by_cases q : r = 6
  · rw [if_pos q]
    subst q
    obtain ⟨s1, ⟨k1, k2⟩, k3⟩ := st_run (F := fun f j s => S_X6_records_c11 (fun u7 => onm (mI u7 0 ((u7.1 0) - (1 : Int32))) fun u8 => onm (mI u8 0 ((u8.1 0) + (1 : Int32))) fun u9 => (S_X6_copies n 0 (u9.1 0) u9).bind fun q10 => some q10) f (i3 (j + 1)) s) (K := fun u7 => onm (mI u7 0 ((u7.1 0) - (1 : Int32))) fun u8 => onm (mI u8 0 ((u8.1 0) + (1 : Int32))) fun u9 => (S_X6_copies n 0 (u9.1 0) u9).bind fun q10 => some q10)
      (I := fun j s => frm [0] [] st s ∧ ∀ i, i ≤ 8 → ∀ k, k < 48 → blk s i k = blk st (if 1 ≤ i ∧ i ≤ j then i + 1 else i) k) (N := 5) (B := 60) (fun f s _ _ => by
        show S_X6_records_c11 _ (f + 1) _ _ = _
        rw [S_X6_records_c11]; exact if_pos (by decide)) (fun f j s hj hfb ⟨h1, h2⟩ => by
        have e5 : ((6 : Int32) ≤ i3 (j + 1)) = (6 ≤ j + 1) := i3_le (a := 6) (by decide) (by omega)
        have hq : ¬ 6 ≤ j + 1 := by omega
        obtain ⟨s', a1, a2, a3, a4⟩ := S_copies (st := s) (a := j + 1 + 1) (b := j + 1) (n := f) (by omega) (by omega) (by omega) (by omega)
        refine ⟨s', ⟨h1.trans a2, fun i hi k hk => ?_⟩, ?_⟩
        · by_cases z : i = j + 1
          · subst z
            rw [a3 k hk, h2 _ (by omega) k hk, if_neg (by omega), if_pos (by omega)]
          · rw [a4 i z k hk, h2 i hi k hk]
            by_cases z2 : 1 ≤ i ∧ i ≤ j
            · rw [if_pos z2, if_pos (by omega)]
            · rw [if_neg z2, if_neg (by omega)]
        · show S_X6_records_c11 _ (f + 1) _ _ = _
          rw [S_X6_records_c11]
          simp only [e5, hq, if_false]
          rw [i3_succ, a1, Option.bind_some]) 0 (Nat.zero_le _) n st (by omega) ⟨frm.rf, fun i hi k hk => by rw [if_neg (by omega)]⟩
    refine Exists.imp (fun st' hh => ⟨k3.trans hh.1, hh.2⟩) (?_ : ∃ st', (onm (mI s1 0 ((s1.1 0) - (1 : Int32))) fun u8 => onm (mI u8 0 ((u8.1 0) + (1 : Int32))) fun u9 => (S_X6_copies n 0 (u9.1 0) u9).bind fun q10 => some q10) = some st' ∧ _)
    have e0 : s1.1 0 = i3 6 := (k1.2.1 0 (by simp)).trans h0
    have e1 : i3 6 - 1 = i3 5 := by decide
    rw [onm_e, onm_e, mI_eq, mI_eq, e0, e1, i3_succ]
    obtain ⟨s', a1, a2, a3, a4⟩ := S_copies (st := mI (mI s1 0 (i3 5)) 0 (i3 (5 + 1))) (a := 0) (b := 6) (n := n) (by omega) (by omega) (by omega) (by omega)
    have a1' : S_X6_copies n 0 (i3 (5 + 1)) (mI (mI s1 0 (i3 5)) 0 (i3 (5 + 1))) = some s' := a1
    rw [a1', Option.bind_some]
    refine ⟨s', rfl, ((k1.mono (by simp) (by simp)).i (by simp)).i (by simp) |>.trans (a2.mono (by simp) (by simp)), (a2.2.1 0 (by simp)).trans mI_eq, fun i hi k hk => ?_⟩
    unfold recI
    rw [if_pos rfl]
    by_cases z : i = 6
    · subst z
      rw [if_pos rfl, a3 k hk]
      show blk s1 0 k = _
      rw [k2 0 (by omega) k hk, if_neg (by omega)]
    · rw [if_neg z, a4 i z k hk]
      show blk s1 i k = _
      exact k2 i hi k hk
  · rw [if_neg q, onm_e, mI_eq, i3_succ]
    obtain ⟨s', a1, a2, a3, a4⟩ := S_copies (st := mI st 0 (i3 (r + 1))) (a := 0) (b := r + 1) (n := n) (by omega) (by omega) (by omega) (by omega)
    have a1' : S_X6_copies n 0 (i3 (r + 1)) (mI st 0 (i3 (r + 1))) = some s' := a1
    rw [a1', Option.bind_some]
    refine ⟨s', rfl, (frm.rf.i (by simp)).trans (a2.mono (by simp) (by simp)), ?_, fun i hi k hk => ?_⟩
    · rw [(a2.2.1 0 (by simp)).trans mI_eq]; congr 1; omega
    · unfold recI
      rw [if_neg q]
      by_cases z : i = r + 1
      · subst z; rw [if_pos rfl, a3 k hk]; rfl
      · rw [if_neg z, a4 i z k hk]; rfl
