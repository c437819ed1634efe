/-! small sets, by the kernel -/
set_option maxRecDepth 100000
theorem rest_step0 : ∀ s : Fin 4096, s.1 ≠ 0 → i3 s.1 &&& (i3 s.1 - 1) = i3 (clr s.1 (ntz s.1)) := by decide +kernel

