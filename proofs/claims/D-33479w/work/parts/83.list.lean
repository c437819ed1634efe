/-! reading lists, and the arrangements
-/
set_option maxRecDepth 100000
section LS
variable {l : Launch} {G : aG} {I : Nat → Prop} {h : aH}
theorem B_checkIndex15 (hl : l.stackTraces = false) {i n : Nat} (hi : i < n) (hn : n < 2147483648) : aC l G mJ15_checkIndex (wsN mJ15_checkIndex) 1 0 0 [.int (i3 i), .int (i3 n)] h (aP1 (some (.int (i3 i))) h) := by
  refine A_J15_checkIndex hl ?_
  exact vC_p (B_checkIndex16 hl (o := none) hi hn) (by decide) (by decide) (by decide) ⟨_, rfl, rfl, rfl⟩
theorem B_get (hl : l.stackTraces = false) {a e cap n i b : Nat} {f : Nat → Option Nat} (hA : AL h a e cap f n) (hi : i < n) (hb : f i = some b) : aC l G mJ2_get (wsN mJ2_get) 2 0 0 [.ref a, .int (i3 i)] h (aP1 (some (.ref b)) h) := by
  obtain ⟨⟨mo, ho⟩, he, hc, hn⟩ := hA
  have hi2 : i < 2147483648 := by omega
  refine A_J2_get hl ?_
  refine vI_mk ho rfl ?_
  refine vC_p (B_checkIndex15 hl hi (by omega)) (by decide) (by decide) (by decide) ⟨_, rfl, ⟨_, ho⟩, ?_⟩
  refine vC_p (v := some (.ref b)) (h' := h) (d2 := 0) (mc2 := 0) (ms2 := 0) ?_ (by decide) (by decide) (by decide) ⟨_, rfl, rfl, rfl⟩
  refine A_J2_elementData hl ?_
  refine vR_mk ho rfl ⟨cap, f, b, he, i3_in hi2 (by omega), ?_, rfl, rfl⟩
  rw [i3_nat hi2]; exact hb
theorem B_size (hl : l.stackTraces = false) {a e cap n : Nat} {f : Nat → Option Nat} (hA : AL h a e cap f n) : aC l G mJ2_size (wsN mJ2_size) 0 0 0 [.ref a] h (aP1 (some (.int (i3 n))) h) := by
  obtain ⟨⟨mo, ho⟩, -⟩ := hA
  refine A_J2_size hl ?_
  exact vI_mk ho rfl ⟨rfl, rfl⟩
theorem B_count (hl : l.stackTraces = false) {a n m : Nat} (hA : ARR I h a n m) : aC l G mX4_count (wsN mX4_count) 1 0 0 [.ref a] h (aP1 (some (.int (i3 (arrs n m).length))) h) := by
  obtain ⟨li, e, cap, f, ho, hL, hr, -⟩ := hA
  have hL2 := hL
  obtain ⟨⟨mo, hlo⟩, -⟩ := hL2
  refine A_X4_count hl ?_
  refine vR_mk ho rfl ⟨⟨_, hlo⟩, ?_⟩
  exact vC_p (B_size hl hL) (by decide) (by decide) (by decide) ⟨_, rfl, rfl, rfl⟩
theorem B_at (hl : l.stackTraces = false) {a n m k : Nat} (hA : ARR I h a n m) (hk : k < (arrs n m).length) : ∃ b, rowA h b n ((arrs n m).getD k []) ∧ I b ∧ aC l G mX4_at (wsN mX4_at) 3 0 0 [.ref a, .int (i3 k)] h (aP1 (some (.ref b)) h) := by
  obtain ⟨li, e, cap, f, ho, hL, hr, -⟩ := hA
  obtain ⟨b, hb, ⟨g, hg, hg2⟩, hIb⟩ := hr k hk
  have hL2 := hL
  obtain ⟨⟨mo, hlo⟩, -⟩ := hL2
  refine ⟨b, ⟨g, hg, hg2⟩, hIb, A_X4_at hl ?_⟩
  refine vR_mk ho rfl ⟨⟨_, hlo⟩, ?_⟩
  exact vC_p (B_get hl hL hk hb) (by decide) (by decide) (by decide) ⟨_, rfl, ⟨_, _, hg⟩, rfl, rfl⟩
end LS
