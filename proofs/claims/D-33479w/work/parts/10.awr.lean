/-! AW's rules, an instruction each (printed by awrules.py) -/
set_option maxRecDepth 100000
section AWI
variable {l : Launch} {G : aG} {M : aM} {d mc ms : Nat} {P : aR → aH → Prop} {pc : Nat} {lv : List (Nat × Value)} {st rest : List Value} {h : aH} {c0 s0 : Nat}
theorem aH_w {A : Prop} (w : A) : A := w
theorem aw_iconst {n : Int} {v : Int32} (hd : decode M.2.1 pc = .ok (.iconst n, 1)) (hv : Int32.ofInt n = v) (k : AW l G M d mc ms P (pc + 1) (lv) (.int v :: rest) h c0 s0) : AW l G M d mc ms P (pc) (lv) (rest) h c0 s0 := by
  intro p e R s m args below meth c A C H locs ls hR hD hS hl
  exact lv_iconst C.1 C.2.1 hd hv (k p e R s m args below meth c A C H locs ls hR hD hS hl)
theorem aw_bipush {n : Int} {v : Int32} (hd : decode M.2.1 pc = .ok (.bipush n, 2)) (hv : (Int8.ofInt n).toInt32 = v) (k : AW l G M d mc ms P (pc + 2) (lv) (.int v :: rest) h c0 s0) : AW l G M d mc ms P (pc) (lv) (rest) h c0 s0 := by
  intro p e R s m args below meth c A C H locs ls hR hD hS hl
  exact lv_bipush C.1 C.2.1 hd hv (k p e R s m args below meth c A C H locs ls hR hD hS hl)
theorem aw_sipush {n : Int} {v : Int32} (hd : decode M.2.1 pc = .ok (.sipush n, 3)) (hv : (Int16.ofInt n).toInt32 = v) (k : AW l G M d mc ms P (pc + 3) (lv) (.int v :: rest) h c0 s0) : AW l G M d mc ms P (pc) (lv) (rest) h c0 s0 := by
  intro p e R s m args below meth c A C H locs ls hR hD hS hl
  exact lv_sipush C.1 C.2.1 hd hv (k p e R s m args below meth c A C H locs ls hR hD hS hl)
theorem aw_lconst {n : Fin 2} {v : Int64} (hd : decode M.2.1 pc = .ok (.lconst n, 1)) (hv : Int64.ofNat (n : Nat) = v) (k : AW l G M d mc ms P (pc + 1) (lv) (.long v :: rest) h c0 s0) : AW l G M d mc ms P (pc) (lv) (rest) h c0 s0 := by
  intro p e R s m args below meth c A C H locs ls hR hD hS hl
  exact lv_lconst C.1 C.2.1 hd hv (k p e R s m args below meth c A C H locs ls hR hD hS hl)
theorem aw_null  (hd : decode M.2.1 pc = .ok (.aconst_null, 1)) (k : AW l G M d mc ms P (pc + 1) (lv) (.null :: rest) h c0 s0) : AW l G M d mc ms P (pc) (lv) (rest) h c0 s0 := by
  intro p e R s m args below meth c A C H locs ls hR hD hS hl
  exact lv_null C.1 C.2.1 hd (k p e R s m args below meth c A C H locs ls hR hD hS hl)
theorem aw_iload_n {q : Fin 4} (j : Nat) {i : Nat} {x : Int32} (hd : decode M.2.1 pc = .ok (.iload_n q, 1)) (hi : (q : Nat) = i) (hj : lv[j]? = some (i, .int x)) (k : AW l G M d mc ms P (pc + 1) (lv) (.int x :: rest) h c0 s0) : AW l G M d mc ms P (pc) (lv) (rest) h c0 s0 := by
  intro p e R s m args below meth c A C H locs ls hR hD hS hl
  exact lv_iload_n C.1 C.2.1 hd hi (lv_at hl j hj) (k p e R s m args below meth c A C H locs ls hR hD hS hl)
theorem aw_iload (j : Nat) {i : Nat} {x : Int32} (hd : decode M.2.1 pc = .ok (.iload i, 2)) (hj : lv[j]? = some (i, .int x)) (k : AW l G M d mc ms P (pc + 2) (lv) (.int x :: rest) h c0 s0) : AW l G M d mc ms P (pc) (lv) (rest) h c0 s0 := by
  intro p e R s m args below meth c A C H locs ls hR hD hS hl
  exact lv_iload C.1 C.2.1 hd (lv_at hl j hj) (k p e R s m args below meth c A C H locs ls hR hD hS hl)
theorem aw_lload_n {q : Fin 4} (j : Nat) {i : Nat} {x : Int64} (hd : decode M.2.1 pc = .ok (.lload_n q, 1)) (hi : (q : Nat) = i) (hj : lv[j]? = some (i, .long x)) (k : AW l G M d mc ms P (pc + 1) (lv) (.long x :: rest) h c0 s0) : AW l G M d mc ms P (pc) (lv) (rest) h c0 s0 := by
  intro p e R s m args below meth c A C H locs ls hR hD hS hl
  exact lv_lload_n C.1 C.2.1 hd hi (lv_at hl j hj) (k p e R s m args below meth c A C H locs ls hR hD hS hl)
theorem aw_lload (j : Nat) {i : Nat} {x : Int64} (hd : decode M.2.1 pc = .ok (.lload i, 2)) (hj : lv[j]? = some (i, .long x)) (k : AW l G M d mc ms P (pc + 2) (lv) (.long x :: rest) h c0 s0) : AW l G M d mc ms P (pc) (lv) (rest) h c0 s0 := by
  intro p e R s m args below meth c A C H locs ls hR hD hS hl
  exact lv_lload C.1 C.2.1 hd (lv_at hl j hj) (k p e R s m args below meth c A C H locs ls hR hD hS hl)
theorem aw_aload_n {q : Fin 4} (j : Nat) {i : Nat} {x : Nat} (hd : decode M.2.1 pc = .ok (.aload_n q, 1)) (hi : (q : Nat) = i) (hj : lv[j]? = some (i, .ref x)) (k : AW l G M d mc ms P (pc + 1) (lv) (.ref x :: rest) h c0 s0) : AW l G M d mc ms P (pc) (lv) (rest) h c0 s0 := by
  intro p e R s m args below meth c A C H locs ls hR hD hS hl
  exact lv_aload_n C.1 C.2.1 hd hi (lv_at hl j hj) (k p e R s m args below meth c A C H locs ls hR hD hS hl)
theorem aw_aload (j : Nat) {i : Nat} {x : Nat} (hd : decode M.2.1 pc = .ok (.aload i, 2)) (hj : lv[j]? = some (i, .ref x)) (k : AW l G M d mc ms P (pc + 2) (lv) (.ref x :: rest) h c0 s0) : AW l G M d mc ms P (pc) (lv) (rest) h c0 s0 := by
  intro p e R s m args below meth c A C H locs ls hR hD hS hl
  exact lv_aload C.1 C.2.1 hd (lv_at hl j hj) (k p e R s m args below meth c A C H locs ls hR hD hS hl)
theorem aw_dload_n {q : Fin 4} (j : Nat) {i : Nat} {x : UInt64} (hd : decode M.2.1 pc = .ok (.dload_n q, 1)) (hi : (q : Nat) = i) (hj : lv[j]? = some (i, .double x)) (k : AW l G M d mc ms P (pc + 1) (lv) (.double x :: rest) h c0 s0) : AW l G M d mc ms P (pc) (lv) (rest) h c0 s0 := by
  intro p e R s m args below meth c A C H locs ls hR hD hS hl
  exact lv_dload_n C.1 C.2.1 hd hi (lv_at hl j hj) (k p e R s m args below meth c A C H locs ls hR hD hS hl)
theorem aw_dload (j : Nat) {i : Nat} {x : UInt64} (hd : decode M.2.1 pc = .ok (.dload i, 2)) (hj : lv[j]? = some (i, .double x)) (k : AW l G M d mc ms P (pc + 2) (lv) (.double x :: rest) h c0 s0) : AW l G M d mc ms P (pc) (lv) (rest) h c0 s0 := by
  intro p e R s m args below meth c A C H locs ls hR hD hS hl
  exact lv_dload C.1 C.2.1 hd (lv_at hl j hj) (k p e R s m args below meth c A C H locs ls hR hD hS hl)
theorem aw_aloadr_n {q : Fin 4} (j : Nat) {i : Nat} {x : Option Nat} (hd : decode M.2.1 pc = .ok (.aload_n q, 1)) (hi : (q : Nat) = i) (hj : lv[j]? = some (i, va_rf x)) (k : AW l G M d mc ms P (pc + 1) (lv) (va_rf x :: rest) h c0 s0) : AW l G M d mc ms P (pc) (lv) (rest) h c0 s0 := by
  intro p e R s m args below meth c A C H locs ls hR hD hS hl
  cases x with
  | none => exact lv_aload_nN C.1 C.2.1 hd hi (lv_at hl j hj) (k p e R s m args below meth c A C H locs ls hR hD hS hl)
  | some a => exact lv_aload_n C.1 C.2.1 hd hi (lv_at hl j hj) (k p e R s m args below meth c A C H locs ls hR hD hS hl)
theorem aw_aloadr (j : Nat) {i : Nat} {x : Option Nat} (hd : decode M.2.1 pc = .ok (.aload i, 2)) (hj : lv[j]? = some (i, va_rf x)) (k : AW l G M d mc ms P (pc + 2) (lv) (va_rf x :: rest) h c0 s0) : AW l G M d mc ms P (pc) (lv) (rest) h c0 s0 := by
  intro p e R s m args below meth c A C H locs ls hR hD hS hl
  cases x with
  | none => exact lv_aloadN C.1 C.2.1 hd (lv_at hl j hj) (k p e R s m args below meth c A C H locs ls hR hD hS hl)
  | some a => exact lv_aload C.1 C.2.1 hd (lv_at hl j hj) (k p e R s m args below meth c A C H locs ls hR hD hS hl)
theorem aw_istore_n {q : Fin 4} {i : Nat} {x : Int32} {lv' : List (Nat × Value)} (hd : decode M.2.1 pc = .ok (.istore_n q, 1)) (hi : (q : Nat) = i) (hn : i < M.2.2.1) (he : (i, Value.int x) :: lv.filter (fun q => !(q.1 == i) && !(q.1 + 1 == i && q.2.category == 2)) = lv') (k : AW l G M d mc ms P (pc + 1) (lv') (rest) h c0 s0) : AW l G M d mc ms P (pc) (lv) (.int x :: rest) h c0 s0 := by
  intro p e R s m args below meth c A C H locs ls hR hD hS hl
  exact lv_istore_n C.1 C.2.1 hd hi hl hn he (fun ls hl => k p e R s m args below meth c A C H locs ls hR hD hS hl)
theorem aw_istore {i : Nat} {x : Int32} {lv' : List (Nat × Value)} (hd : decode M.2.1 pc = .ok (.istore i, 2)) (hn : i < M.2.2.1) (he : (i, Value.int x) :: lv.filter (fun q => !(q.1 == i) && !(q.1 + 1 == i && q.2.category == 2)) = lv') (k : AW l G M d mc ms P (pc + 2) (lv') (rest) h c0 s0) : AW l G M d mc ms P (pc) (lv) (.int x :: rest) h c0 s0 := by
  intro p e R s m args below meth c A C H locs ls hR hD hS hl
  exact lv_istore C.1 C.2.1 hd hl hn he (fun ls hl => k p e R s m args below meth c A C H locs ls hR hD hS hl)
theorem aw_lstore_n {q : Fin 4} {i : Nat} {x : Int64} {lv' : List (Nat × Value)} (hd : decode M.2.1 pc = .ok (.lstore_n q, 1)) (hi : (q : Nat) = i) (hn : i + 1 < M.2.2.1) (he : (i, Value.long x) :: lv.filter (fun q => !(q.1 == i) && (!(q.1 == i + 1) && !(q.1 + 1 == i && q.2.category == 2))) = lv') (k : AW l G M d mc ms P (pc + 1) (lv') (rest) h c0 s0) : AW l G M d mc ms P (pc) (lv) (.long x :: rest) h c0 s0 := by
  intro p e R s m args below meth c A C H locs ls hR hD hS hl
  exact lv_lstore_n C.1 C.2.1 hd hi hl hn he (fun ls hl => k p e R s m args below meth c A C H locs ls hR hD hS hl)
theorem aw_lstore {i : Nat} {x : Int64} {lv' : List (Nat × Value)} (hd : decode M.2.1 pc = .ok (.lstore i, 2)) (hn : i + 1 < M.2.2.1) (he : (i, Value.long x) :: lv.filter (fun q => !(q.1 == i) && (!(q.1 == i + 1) && !(q.1 + 1 == i && q.2.category == 2))) = lv') (k : AW l G M d mc ms P (pc + 2) (lv') (rest) h c0 s0) : AW l G M d mc ms P (pc) (lv) (.long x :: rest) h c0 s0 := by
  intro p e R s m args below meth c A C H locs ls hR hD hS hl
  exact lv_lstore C.1 C.2.1 hd hl hn he (fun ls hl => k p e R s m args below meth c A C H locs ls hR hD hS hl)
theorem aw_astore_n {q : Fin 4} {i : Nat} {x : Nat} {lv' : List (Nat × Value)} (hd : decode M.2.1 pc = .ok (.astore_n q, 1)) (hi : (q : Nat) = i) (hn : i < M.2.2.1) (he : (i, Value.ref x) :: lv.filter (fun q => !(q.1 == i) && !(q.1 + 1 == i && q.2.category == 2)) = lv') (k : AW l G M d mc ms P (pc + 1) (lv') (rest) h c0 s0) : AW l G M d mc ms P (pc) (lv) (.ref x :: rest) h c0 s0 := by
  intro p e R s m args below meth c A C H locs ls hR hD hS hl
  exact lv_astore_n C.1 C.2.1 hd hi hl hn he (fun ls hl => k p e R s m args below meth c A C H locs ls hR hD hS hl)
theorem aw_astore {i : Nat} {x : Nat} {lv' : List (Nat × Value)} (hd : decode M.2.1 pc = .ok (.astore i, 2)) (hn : i < M.2.2.1) (he : (i, Value.ref x) :: lv.filter (fun q => !(q.1 == i) && !(q.1 + 1 == i && q.2.category == 2)) = lv') (k : AW l G M d mc ms P (pc + 2) (lv') (rest) h c0 s0) : AW l G M d mc ms P (pc) (lv) (.ref x :: rest) h c0 s0 := by
  intro p e R s m args below meth c A C H locs ls hR hD hS hl
  exact lv_astore C.1 C.2.1 hd hl hn he (fun ls hl => k p e R s m args below meth c A C H locs ls hR hD hS hl)
theorem aw_astoreN_n {q : Fin 4} {i : Nat} {lv' : List (Nat × Value)} (hd : decode M.2.1 pc = .ok (.astore_n q, 1)) (hi : (q : Nat) = i) (hn : i < M.2.2.1) (he : (i, Value.null) :: lv.filter (fun q => !(q.1 == i) && !(q.1 + 1 == i && q.2.category == 2)) = lv') (k : AW l G M d mc ms P (pc + 1) (lv') (rest) h c0 s0) : AW l G M d mc ms P (pc) (lv) (.null :: rest) h c0 s0 := by
  intro p e R s m args below meth c A C H locs ls hR hD hS hl
  exact lv_astore_nN C.1 C.2.1 hd hi hl hn he (fun ls hl => k p e R s m args below meth c A C H locs ls hR hD hS hl)
theorem aw_astoreN {i : Nat} {lv' : List (Nat × Value)} (hd : decode M.2.1 pc = .ok (.astore i, 2)) (hn : i < M.2.2.1) (he : (i, Value.null) :: lv.filter (fun q => !(q.1 == i) && !(q.1 + 1 == i && q.2.category == 2)) = lv') (k : AW l G M d mc ms P (pc + 2) (lv') (rest) h c0 s0) : AW l G M d mc ms P (pc) (lv) (.null :: rest) h c0 s0 := by
  intro p e R s m args below meth c A C H locs ls hR hD hS hl
  exact lv_astoreN C.1 C.2.1 hd hl hn he (fun ls hl => k p e R s m args below meth c A C H locs ls hR hD hS hl)
theorem aw_dstore_n {q : Fin 4} {i : Nat} {x : UInt64} {lv' : List (Nat × Value)} (hd : decode M.2.1 pc = .ok (.dstore_n q, 1)) (hi : (q : Nat) = i) (hn : i + 1 < M.2.2.1) (he : (i, Value.double x) :: lv.filter (fun q => !(q.1 == i) && (!(q.1 == i + 1) && !(q.1 + 1 == i && q.2.category == 2))) = lv') (k : AW l G M d mc ms P (pc + 1) (lv') (rest) h c0 s0) : AW l G M d mc ms P (pc) (lv) (.double x :: rest) h c0 s0 := by
  intro p e R s m args below meth c A C H locs ls hR hD hS hl
  exact lv_dstore_n C.1 C.2.1 hd hi hl hn he (fun ls hl => k p e R s m args below meth c A C H locs ls hR hD hS hl)
theorem aw_dstore {i : Nat} {x : UInt64} {lv' : List (Nat × Value)} (hd : decode M.2.1 pc = .ok (.dstore i, 2)) (hn : i + 1 < M.2.2.1) (he : (i, Value.double x) :: lv.filter (fun q => !(q.1 == i) && (!(q.1 == i + 1) && !(q.1 + 1 == i && q.2.category == 2))) = lv') (k : AW l G M d mc ms P (pc + 2) (lv') (rest) h c0 s0) : AW l G M d mc ms P (pc) (lv) (.double x :: rest) h c0 s0 := by
  intro p e R s m args below meth c A C H locs ls hR hD hS hl
  exact lv_dstore C.1 C.2.1 hd hl hn he (fun ls hl => k p e R s m args below meth c A C H locs ls hR hD hS hl)
theorem aw_iinc {i : Nat} (j : Nat) {n : Int} {x v : Int32} {lv' : List (Nat × Value)} (hd : decode M.2.1 pc = .ok (.iinc i n, 3)) (hj : lv[j]? = some (i, .int x)) (hv : x + Int32.ofInt n = v) (hn : i < M.2.2.1) (he : (i, Value.int v) :: lv.filter (fun q => !(q.1 == i) && !(q.1 + 1 == i && q.2.category == 2)) = lv') (k : AW l G M d mc ms P (pc + 3) (lv') (rest) h c0 s0) : AW l G M d mc ms P (pc) (lv) (rest) h c0 s0 := by
  intro p e R s m args below meth c A C H locs ls hR hD hS hl
  exact lv_iinc C.1 C.2.1 hd hl hj hv hn he (fun ls hl => k p e R s m args below meth c A C H locs ls hR hD hS hl)
theorem aw_iadd {x y : Int32} (hd : decode M.2.1 pc = .ok (.iadd, 1)) (k : AW l G M d mc ms P (pc + 1) (lv) (.int (x + y) :: rest) h c0 s0) : AW l G M d mc ms P (pc) (lv) (.int y :: .int x :: rest) h c0 s0 := by
  intro p e R s m args below meth c A C H locs ls hR hD hS hl
  exact lv_iadd C.1 C.2.1 hd (k p e R s m args below meth c A C H locs ls hR hD hS hl)
theorem aw_isub {x y : Int32} (hd : decode M.2.1 pc = .ok (.isub, 1)) (k : AW l G M d mc ms P (pc + 1) (lv) (.int (x - y) :: rest) h c0 s0) : AW l G M d mc ms P (pc) (lv) (.int y :: .int x :: rest) h c0 s0 := by
  intro p e R s m args below meth c A C H locs ls hR hD hS hl
  exact lv_isub C.1 C.2.1 hd (k p e R s m args below meth c A C H locs ls hR hD hS hl)
theorem aw_imul {x y : Int32} (hd : decode M.2.1 pc = .ok (.imul, 1)) (k : AW l G M d mc ms P (pc + 1) (lv) (.int (x * y) :: rest) h c0 s0) : AW l G M d mc ms P (pc) (lv) (.int y :: .int x :: rest) h c0 s0 := by
  intro p e R s m args below meth c A C H locs ls hR hD hS hl
  exact lv_imul C.1 C.2.1 hd (k p e R s m args below meth c A C H locs ls hR hD hS hl)
theorem aw_iand {x y : Int32} (hd : decode M.2.1 pc = .ok (.iand, 1)) (k : AW l G M d mc ms P (pc + 1) (lv) (.int (x &&& y) :: rest) h c0 s0) : AW l G M d mc ms P (pc) (lv) (.int y :: .int x :: rest) h c0 s0 := by
  intro p e R s m args below meth c A C H locs ls hR hD hS hl
  exact lv_iand C.1 C.2.1 hd (k p e R s m args below meth c A C H locs ls hR hD hS hl)
theorem aw_ior {x y : Int32} (hd : decode M.2.1 pc = .ok (.ior, 1)) (k : AW l G M d mc ms P (pc + 1) (lv) (.int (x ||| y) :: rest) h c0 s0) : AW l G M d mc ms P (pc) (lv) (.int y :: .int x :: rest) h c0 s0 := by
  intro p e R s m args below meth c A C H locs ls hR hD hS hl
  exact lv_ior C.1 C.2.1 hd (k p e R s m args below meth c A C H locs ls hR hD hS hl)
theorem aw_ixor {x y : Int32} (hd : decode M.2.1 pc = .ok (.ixor, 1)) (k : AW l G M d mc ms P (pc + 1) (lv) (.int (x ^^^ y) :: rest) h c0 s0) : AW l G M d mc ms P (pc) (lv) (.int y :: .int x :: rest) h c0 s0 := by
  intro p e R s m args below meth c A C H locs ls hR hD hS hl
  exact lv_ixor C.1 C.2.1 hd (k p e R s m args below meth c A C H locs ls hR hD hS hl)
theorem aw_ishl {x y : Int32} (hd : decode M.2.1 pc = .ok (.ishl, 1)) (k : AW l G M d mc ms P (pc + 1) (lv) (.int (x <<< (y &&& 31)) :: rest) h c0 s0) : AW l G M d mc ms P (pc) (lv) (.int y :: .int x :: rest) h c0 s0 := by
  intro p e R s m args below meth c A C H locs ls hR hD hS hl
  exact lv_ishl C.1 C.2.1 hd (k p e R s m args below meth c A C H locs ls hR hD hS hl)
theorem aw_ishr {x y : Int32} (hd : decode M.2.1 pc = .ok (.ishr, 1)) (k : AW l G M d mc ms P (pc + 1) (lv) (.int (x >>> (y &&& 31)) :: rest) h c0 s0) : AW l G M d mc ms P (pc) (lv) (.int y :: .int x :: rest) h c0 s0 := by
  intro p e R s m args below meth c A C H locs ls hR hD hS hl
  exact lv_ishr C.1 C.2.1 hd (k p e R s m args below meth c A C H locs ls hR hD hS hl)
theorem aw_idiv {x y : Int32} (hd : decode M.2.1 pc = .ok (.idiv, 1)) (hne : ¬ y = 0) (k : AW l G M d mc ms P (pc + 1) (lv) (.int (x / y) :: rest) h c0 s0) : AW l G M d mc ms P (pc) (lv) (.int y :: .int x :: rest) h c0 s0 := by
  intro p e R s m args below meth c A C H locs ls hR hD hS hl
  exact lv_idiv C.1 C.2.1 hd hne (k p e R s m args below meth c A C H locs ls hR hD hS hl)
theorem aw_irem {x y : Int32} (hd : decode M.2.1 pc = .ok (.irem, 1)) (hne : ¬ y = 0) (k : AW l G M d mc ms P (pc + 1) (lv) (.int (x - x / y * y) :: rest) h c0 s0) : AW l G M d mc ms P (pc) (lv) (.int y :: .int x :: rest) h c0 s0 := by
  intro p e R s m args below meth c A C H locs ls hR hD hS hl
  exact lv_irem C.1 C.2.1 hd hne (k p e R s m args below meth c A C H locs ls hR hD hS hl)
theorem aw_ineg {x : Int32} (hd : decode M.2.1 pc = .ok (.ineg, 1)) (k : AW l G M d mc ms P (pc + 1) (lv) (.int (-x) :: rest) h c0 s0) : AW l G M d mc ms P (pc) (lv) (.int x :: rest) h c0 s0 := by
  intro p e R s m args below meth c A C H locs ls hR hD hS hl
  exact lv_ineg C.1 C.2.1 hd (k p e R s m args below meth c A C H locs ls hR hD hS hl)
theorem aw_ladd {x y : Int64} (hd : decode M.2.1 pc = .ok (.ladd, 1)) (k : AW l G M d mc ms P (pc + 1) (lv) (.long (x + y) :: rest) h c0 s0) : AW l G M d mc ms P (pc) (lv) (.long y :: .long x :: rest) h c0 s0 := by
  intro p e R s m args below meth c A C H locs ls hR hD hS hl
  exact lv_ladd C.1 C.2.1 hd (k p e R s m args below meth c A C H locs ls hR hD hS hl)
theorem aw_lsub {x y : Int64} (hd : decode M.2.1 pc = .ok (.lsub, 1)) (k : AW l G M d mc ms P (pc + 1) (lv) (.long (x - y) :: rest) h c0 s0) : AW l G M d mc ms P (pc) (lv) (.long y :: .long x :: rest) h c0 s0 := by
  intro p e R s m args below meth c A C H locs ls hR hD hS hl
  exact lv_lsub C.1 C.2.1 hd (k p e R s m args below meth c A C H locs ls hR hD hS hl)
theorem aw_land {x y : Int64} (hd : decode M.2.1 pc = .ok (.land, 1)) (k : AW l G M d mc ms P (pc + 1) (lv) (.long (x &&& y) :: rest) h c0 s0) : AW l G M d mc ms P (pc) (lv) (.long y :: .long x :: rest) h c0 s0 := by
  intro p e R s m args below meth c A C H locs ls hR hD hS hl
  exact lv_land C.1 C.2.1 hd (k p e R s m args below meth c A C H locs ls hR hD hS hl)
theorem aw_lor {x y : Int64} (hd : decode M.2.1 pc = .ok (.lor, 1)) (k : AW l G M d mc ms P (pc + 1) (lv) (.long (x ||| y) :: rest) h c0 s0) : AW l G M d mc ms P (pc) (lv) (.long y :: .long x :: rest) h c0 s0 := by
  intro p e R s m args below meth c A C H locs ls hR hD hS hl
  exact lv_lor C.1 C.2.1 hd (k p e R s m args below meth c A C H locs ls hR hD hS hl)
theorem aw_lxor {x y : Int64} (hd : decode M.2.1 pc = .ok (.lxor, 1)) (k : AW l G M d mc ms P (pc + 1) (lv) (.long (x ^^^ y) :: rest) h c0 s0) : AW l G M d mc ms P (pc) (lv) (.long y :: .long x :: rest) h c0 s0 := by
  intro p e R s m args below meth c A C H locs ls hR hD hS hl
  exact lv_lxor C.1 C.2.1 hd (k p e R s m args below meth c A C H locs ls hR hD hS hl)
theorem aw_iushr {x y : Int32} (hd : decode M.2.1 pc = .ok (.iushr, 1)) (k : AW l G M d mc ms P (pc + 1) (lv) (.int ((x.toUInt32 >>> (y.toUInt32 &&& Int32.toUInt32 31)).toInt32) :: rest) h c0 s0) : AW l G M d mc ms P (pc) (lv) (.int y :: .int x :: rest) h c0 s0 := by
  intro p e R s m args below meth c A C H locs ls hR hD hS hl
  exact lv_iushr C.1 C.2.1 hd rfl (k p e R s m args below meth c A C H locs ls hR hD hS hl)
theorem aw_lushr {x : Int64} {y : Int32} (hd : decode M.2.1 pc = .ok (.lushr, 1)) (k : AW l G M d mc ms P (pc + 1) (lv) (.long ((x.toUInt64 >>> (y.toInt64.toUInt64 &&& Int64.toUInt64 63)).toInt64) :: rest) h c0 s0) : AW l G M d mc ms P (pc) (lv) (.int y :: .long x :: rest) h c0 s0 := by
  intro p e R s m args below meth c A C H locs ls hR hD hS hl
  exact lv_lushr C.1 C.2.1 hd rfl (k p e R s m args below meth c A C H locs ls hR hD hS hl)
theorem aw_lshl {x : Int64} {y : Int32} (hd : decode M.2.1 pc = .ok (.lshl, 1)) (k : AW l G M d mc ms P (pc + 1) (lv) (.long (x <<< (y.toInt64 &&& 63)) :: rest) h c0 s0) : AW l G M d mc ms P (pc) (lv) (.int y :: .long x :: rest) h c0 s0 := by
  intro p e R s m args below meth c A C H locs ls hR hD hS hl
  exact lv_lshl C.1 C.2.1 hd rfl (k p e R s m args below meth c A C H locs ls hR hD hS hl)
theorem aw_lshr {x : Int64} {y : Int32} (hd : decode M.2.1 pc = .ok (.lshr, 1)) (k : AW l G M d mc ms P (pc + 1) (lv) (.long (x >>> (y.toInt64 &&& 63)) :: rest) h c0 s0) : AW l G M d mc ms P (pc) (lv) (.int y :: .long x :: rest) h c0 s0 := by
  intro p e R s m args below meth c A C H locs ls hR hD hS hl
  exact lv_lshr C.1 C.2.1 hd rfl (k p e R s m args below meth c A C H locs ls hR hD hS hl)
theorem aw_i2l {x : Int32} (hd : decode M.2.1 pc = .ok (.i2l, 1)) (k : AW l G M d mc ms P (pc + 1) (lv) (.long (x.toInt64) :: rest) h c0 s0) : AW l G M d mc ms P (pc) (lv) (.int x :: rest) h c0 s0 := by
  intro p e R s m args below meth c A C H locs ls hR hD hS hl
  exact lv_i2l C.1 C.2.1 hd rfl (k p e R s m args below meth c A C H locs ls hR hD hS hl)
theorem aw_l2i {x : Int64} (hd : decode M.2.1 pc = .ok (.l2i, 1)) (k : AW l G M d mc ms P (pc + 1) (lv) (.int (x.toInt32) :: rest) h c0 s0) : AW l G M d mc ms P (pc) (lv) (.long x :: rest) h c0 s0 := by
  intro p e R s m args below meth c A C H locs ls hR hD hS hl
  exact lv_l2i C.1 C.2.1 hd rfl (k p e R s m args below meth c A C H locs ls hR hD hS hl)
theorem aw_i2b {x : Int32} (hd : decode M.2.1 pc = .ok (.i2b, 1)) (k : AW l G M d mc ms P (pc + 1) (lv) (.int (x.toInt8.toInt32) :: rest) h c0 s0) : AW l G M d mc ms P (pc) (lv) (.int x :: rest) h c0 s0 := by
  intro p e R s m args below meth c A C H locs ls hR hD hS hl
  exact lv_i2b C.1 C.2.1 hd rfl (k p e R s m args below meth c A C H locs ls hR hD hS hl)
theorem aw_i2c {x : Int32} (hd : decode M.2.1 pc = .ok (.i2c, 1)) (k : AW l G M d mc ms P (pc + 1) (lv) (.int ((x.toUInt32 % 65536).toInt32) :: rest) h c0 s0) : AW l G M d mc ms P (pc) (lv) (.int x :: rest) h c0 s0 := by
  intro p e R s m args below meth c A C H locs ls hR hD hS hl
  exact lv_i2c C.1 C.2.1 hd rfl (k p e R s m args below meth c A C H locs ls hR hD hS hl)
theorem aw_lcmp {x y : Int64} (hd : decode M.2.1 pc = .ok (.lcmp, 1)) (k : AW l G M d mc ms P (pc + 1) (lv) (.int (lg_cmp x y) :: rest) h c0 s0) : AW l G M d mc ms P (pc) (lv) (.long y :: .long x :: rest) h c0 s0 := by
  intro p e R s m args below meth c A C H locs ls hR hD hS hl
  exact W.lcmp C.1 C.2.1 hd (k p e R s m args below meth c A C H locs ls hR hD hS hl)
theorem aw_dcmp {x y : UInt64} {op : CmpOp} (hd : decode M.2.1 pc = .ok (.dcmp op, 1)) (k : AW l G M d mc ms P (pc + 1) (lv) (.int (Op.cmpValue (FP.dcmp x y) op) :: rest) h c0 s0) : AW l G M d mc ms P (pc) (lv) (.double y :: .double x :: rest) h c0 s0 := by
  intro p e R s m args below meth c A C H locs ls hR hD hS hl
  exact lv_dcmp C.1 C.2.1 hd (k p e R s m args below meth c A C H locs ls hR hD hS hl)
theorem aw_i2d {x : Int32} (hd : decode M.2.1 pc = .ok (.i2d, 1)) (k : AW l G M d mc ms P (pc + 1) (lv) (.double (FP.i2d x) :: rest) h c0 s0) : AW l G M d mc ms P (pc) (lv) (.int x :: rest) h c0 s0 := by
  intro p e R s m args below meth c A C H locs ls hR hD hS hl
  exact lv_i2d C.1 C.2.1 hd (k p e R s m args below meth c A C H locs ls hR hD hS hl)
theorem aw_ddiv {x y : UInt64} (hd : decode M.2.1 pc = .ok (.ddiv, 1)) (hne : vf_n64 (FP.ddiv x y)) (k : AW l G M d mc ms P (pc + 1) (lv) (.double (FP.ddiv x y) :: rest) h c0 s0) : AW l G M d mc ms P (pc) (lv) (.double y :: .double x :: rest) h c0 s0 := by
  intro p e R s m args below meth c A C H locs ls hR hD hS hl
  exact lv_ddiv C.1 C.2.1 hd hne (k p e R s m args below meth c A C H locs ls hR hD hS hl)
theorem aw_dup {va : Value} (hd : decode M.2.1 pc = .ok (.dup, 1)) (hva : va.category = 1) (k : AW l G M d mc ms P (pc + 1) (lv) (va :: va :: rest) h c0 s0) : AW l G M d mc ms P (pc) (lv) (va :: rest) h c0 s0 := by
  intro p e R s m args below meth c A C H locs ls hR hD hS hl
  exact lv_dup C.1 C.2.1 hd hva (k p e R s m args below meth c A C H locs ls hR hD hS hl)
theorem aw_pop {va : Value} (hd : decode M.2.1 pc = .ok (.pop, 1)) (hva : va.category = 1) (k : AW l G M d mc ms P (pc + 1) (lv) (rest) h c0 s0) : AW l G M d mc ms P (pc) (lv) (va :: rest) h c0 s0 := by
  intro p e R s m args below meth c A C H locs ls hR hD hS hl
  exact lv_pop C.1 C.2.1 hd hva (k p e R s m args below meth c A C H locs ls hR hD hS hl)
theorem aw_dup_x1 {va vb : Value} (hd : decode M.2.1 pc = .ok (.dup_x1, 1)) (hva : va.category = 1) (hvb : vb.category = 1) (k : AW l G M d mc ms P (pc + 1) (lv) (va :: vb :: va :: rest) h c0 s0) : AW l G M d mc ms P (pc) (lv) (va :: vb :: rest) h c0 s0 := by
  intro p e R s m args below meth c A C H locs ls hR hD hS hl
  exact lv_dup_x1 C.1 C.2.1 hd hva hvb (k p e R s m args below meth c A C H locs ls hR hD hS hl)
theorem aw_dup2_11 {va vb : Value} (hd : decode M.2.1 pc = .ok (.dup2, 1)) (hva : va.category = 1) (hvb : vb.category = 1) (k : AW l G M d mc ms P (pc + 1) (lv) (va :: vb :: va :: vb :: rest) h c0 s0) : AW l G M d mc ms P (pc) (lv) (va :: vb :: rest) h c0 s0 := by
  intro p e R s m args below meth c A C H locs ls hR hD hS hl
  exact lv_dup2_11 C.1 C.2.1 hd hva hvb (k p e R s m args below meth c A C H locs ls hR hD hS hl)
theorem aw_if_eq {x : Int32} {off : Int} (tgt : Nat) (hd : decode M.2.1 pc = .ok (.ifCond .eq off, 3)) (ht : (pc : Int) + off = (tgt : Int)) (kt : x = 0 → AW l G M d mc ms P (tgt) (lv) (rest) h c0 s0) (kf : ¬ x = 0 → AW l G M d mc ms P (pc + 3) (lv) (rest) h c0 s0) : AW l G M d mc ms P (pc) (lv) (.int x :: rest) h c0 s0 := by
  intro p e R s m args below meth c A C H locs ls hR hD hS hl
  exact lv_if_eq C.1 C.2.1 hd ht (fun q => kt q p e R s m args below meth c A C H locs ls hR hD hS hl) (fun q => kf q p e R s m args below meth c A C H locs ls hR hD hS hl)
theorem aw_icmp_eq {x y : Int32} {off : Int} (tgt : Nat) (hd : decode M.2.1 pc = .ok (.if_icmp .eq off, 3)) (ht : (pc : Int) + off = (tgt : Int)) (kt : x = y → AW l G M d mc ms P (tgt) (lv) (rest) h c0 s0) (kf : ¬ x = y → AW l G M d mc ms P (pc + 3) (lv) (rest) h c0 s0) : AW l G M d mc ms P (pc) (lv) (.int y :: .int x :: rest) h c0 s0 := by
  intro p e R s m args below meth c A C H locs ls hR hD hS hl
  exact lv_icmp_eq C.1 C.2.1 hd ht (fun q => kt q p e R s m args below meth c A C H locs ls hR hD hS hl) (fun q => kf q p e R s m args below meth c A C H locs ls hR hD hS hl)
theorem aw_if_ne {x : Int32} {off : Int} (tgt : Nat) (hd : decode M.2.1 pc = .ok (.ifCond .ne off, 3)) (ht : (pc : Int) + off = (tgt : Int)) (kt : ¬ x = 0 → AW l G M d mc ms P (tgt) (lv) (rest) h c0 s0) (kf : x = 0 → AW l G M d mc ms P (pc + 3) (lv) (rest) h c0 s0) : AW l G M d mc ms P (pc) (lv) (.int x :: rest) h c0 s0 := by
  intro p e R s m args below meth c A C H locs ls hR hD hS hl
  exact lv_if_ne C.1 C.2.1 hd ht (fun q => kt q p e R s m args below meth c A C H locs ls hR hD hS hl) (fun q => kf q p e R s m args below meth c A C H locs ls hR hD hS hl)
theorem aw_icmp_ne {x y : Int32} {off : Int} (tgt : Nat) (hd : decode M.2.1 pc = .ok (.if_icmp .ne off, 3)) (ht : (pc : Int) + off = (tgt : Int)) (kt : ¬ x = y → AW l G M d mc ms P (tgt) (lv) (rest) h c0 s0) (kf : x = y → AW l G M d mc ms P (pc + 3) (lv) (rest) h c0 s0) : AW l G M d mc ms P (pc) (lv) (.int y :: .int x :: rest) h c0 s0 := by
  intro p e R s m args below meth c A C H locs ls hR hD hS hl
  exact lv_icmp_ne C.1 C.2.1 hd ht (fun q => kt q p e R s m args below meth c A C H locs ls hR hD hS hl) (fun q => kf q p e R s m args below meth c A C H locs ls hR hD hS hl)
theorem aw_if_lt {x : Int32} {off : Int} (tgt : Nat) (hd : decode M.2.1 pc = .ok (.ifCond .lt off, 3)) (ht : (pc : Int) + off = (tgt : Int)) (kt : x < 0 → AW l G M d mc ms P (tgt) (lv) (rest) h c0 s0) (kf : ¬ x < 0 → AW l G M d mc ms P (pc + 3) (lv) (rest) h c0 s0) : AW l G M d mc ms P (pc) (lv) (.int x :: rest) h c0 s0 := by
  intro p e R s m args below meth c A C H locs ls hR hD hS hl
  exact lv_if_lt C.1 C.2.1 hd ht (fun q => kt q p e R s m args below meth c A C H locs ls hR hD hS hl) (fun q => kf q p e R s m args below meth c A C H locs ls hR hD hS hl)
theorem aw_icmp_lt {x y : Int32} {off : Int} (tgt : Nat) (hd : decode M.2.1 pc = .ok (.if_icmp .lt off, 3)) (ht : (pc : Int) + off = (tgt : Int)) (kt : x < y → AW l G M d mc ms P (tgt) (lv) (rest) h c0 s0) (kf : ¬ x < y → AW l G M d mc ms P (pc + 3) (lv) (rest) h c0 s0) : AW l G M d mc ms P (pc) (lv) (.int y :: .int x :: rest) h c0 s0 := by
  intro p e R s m args below meth c A C H locs ls hR hD hS hl
  exact lv_icmp_lt C.1 C.2.1 hd ht (fun q => kt q p e R s m args below meth c A C H locs ls hR hD hS hl) (fun q => kf q p e R s m args below meth c A C H locs ls hR hD hS hl)
theorem aw_if_ge {x : Int32} {off : Int} (tgt : Nat) (hd : decode M.2.1 pc = .ok (.ifCond .ge off, 3)) (ht : (pc : Int) + off = (tgt : Int)) (kt : 0 ≤ x → AW l G M d mc ms P (tgt) (lv) (rest) h c0 s0) (kf : ¬ 0 ≤ x → AW l G M d mc ms P (pc + 3) (lv) (rest) h c0 s0) : AW l G M d mc ms P (pc) (lv) (.int x :: rest) h c0 s0 := by
  intro p e R s m args below meth c A C H locs ls hR hD hS hl
  exact lv_if_ge C.1 C.2.1 hd ht (fun q => kt q p e R s m args below meth c A C H locs ls hR hD hS hl) (fun q => kf q p e R s m args below meth c A C H locs ls hR hD hS hl)
theorem aw_icmp_ge {x y : Int32} {off : Int} (tgt : Nat) (hd : decode M.2.1 pc = .ok (.if_icmp .ge off, 3)) (ht : (pc : Int) + off = (tgt : Int)) (kt : y ≤ x → AW l G M d mc ms P (tgt) (lv) (rest) h c0 s0) (kf : ¬ y ≤ x → AW l G M d mc ms P (pc + 3) (lv) (rest) h c0 s0) : AW l G M d mc ms P (pc) (lv) (.int y :: .int x :: rest) h c0 s0 := by
  intro p e R s m args below meth c A C H locs ls hR hD hS hl
  exact lv_icmp_ge C.1 C.2.1 hd ht (fun q => kt q p e R s m args below meth c A C H locs ls hR hD hS hl) (fun q => kf q p e R s m args below meth c A C H locs ls hR hD hS hl)
theorem aw_if_gt {x : Int32} {off : Int} (tgt : Nat) (hd : decode M.2.1 pc = .ok (.ifCond .gt off, 3)) (ht : (pc : Int) + off = (tgt : Int)) (kt : 0 < x → AW l G M d mc ms P (tgt) (lv) (rest) h c0 s0) (kf : ¬ 0 < x → AW l G M d mc ms P (pc + 3) (lv) (rest) h c0 s0) : AW l G M d mc ms P (pc) (lv) (.int x :: rest) h c0 s0 := by
  intro p e R s m args below meth c A C H locs ls hR hD hS hl
  exact lv_if_gt C.1 C.2.1 hd ht (fun q => kt q p e R s m args below meth c A C H locs ls hR hD hS hl) (fun q => kf q p e R s m args below meth c A C H locs ls hR hD hS hl)
theorem aw_icmp_gt {x y : Int32} {off : Int} (tgt : Nat) (hd : decode M.2.1 pc = .ok (.if_icmp .gt off, 3)) (ht : (pc : Int) + off = (tgt : Int)) (kt : y < x → AW l G M d mc ms P (tgt) (lv) (rest) h c0 s0) (kf : ¬ y < x → AW l G M d mc ms P (pc + 3) (lv) (rest) h c0 s0) : AW l G M d mc ms P (pc) (lv) (.int y :: .int x :: rest) h c0 s0 := by
  intro p e R s m args below meth c A C H locs ls hR hD hS hl
  exact lv_icmp_gt C.1 C.2.1 hd ht (fun q => kt q p e R s m args below meth c A C H locs ls hR hD hS hl) (fun q => kf q p e R s m args below meth c A C H locs ls hR hD hS hl)
theorem aw_if_le {x : Int32} {off : Int} (tgt : Nat) (hd : decode M.2.1 pc = .ok (.ifCond .le off, 3)) (ht : (pc : Int) + off = (tgt : Int)) (kt : x ≤ 0 → AW l G M d mc ms P (tgt) (lv) (rest) h c0 s0) (kf : ¬ x ≤ 0 → AW l G M d mc ms P (pc + 3) (lv) (rest) h c0 s0) : AW l G M d mc ms P (pc) (lv) (.int x :: rest) h c0 s0 := by
  intro p e R s m args below meth c A C H locs ls hR hD hS hl
  exact lv_if_le C.1 C.2.1 hd ht (fun q => kt q p e R s m args below meth c A C H locs ls hR hD hS hl) (fun q => kf q p e R s m args below meth c A C H locs ls hR hD hS hl)
theorem aw_icmp_le {x y : Int32} {off : Int} (tgt : Nat) (hd : decode M.2.1 pc = .ok (.if_icmp .le off, 3)) (ht : (pc : Int) + off = (tgt : Int)) (kt : x ≤ y → AW l G M d mc ms P (tgt) (lv) (rest) h c0 s0) (kf : ¬ x ≤ y → AW l G M d mc ms P (pc + 3) (lv) (rest) h c0 s0) : AW l G M d mc ms P (pc) (lv) (.int y :: .int x :: rest) h c0 s0 := by
  intro p e R s m args below meth c A C H locs ls hR hD hS hl
  exact lv_icmp_le C.1 C.2.1 hd ht (fun q => kt q p e R s m args below meth c A C H locs ls hR hD hS hl) (fun q => kf q p e R s m args below meth c A C H locs ls hR hD hS hl)
theorem aw_goto {off : Int} (tgt : Nat) (hd : decode M.2.1 pc = .ok (.goto off, 3)) (ht : (pc : Int) + off = (tgt : Int)) (k : AW l G M d mc ms P (tgt) (lv) (rest) h c0 s0) : AW l G M d mc ms P (pc) (lv) (rest) h c0 s0 := by
  intro p e R s m args below meth c A C H locs ls hR hD hS hl
  exact lv_goto C.1 C.2.1 hd ht (k p e R s m args below meth c A C H locs ls hR hD hS hl)
theorem aw_acmp_eq {rx ry : Option Nat} {off : Int} (tgt : Nat) (hd : decode M.2.1 pc = .ok (.if_acmp .eq off, 3)) (ht : (pc : Int) + off = (tgt : Int)) (kt : rx = ry → AW l G M d mc ms P (tgt) (lv) (rest) h c0 s0) (kf : ¬ rx = ry → AW l G M d mc ms P (pc + 3) (lv) (rest) h c0 s0) : AW l G M d mc ms P (pc) (lv) (va_rf ry :: va_rf rx :: rest) h c0 s0 := by
  intro p e R s m args below meth c A C H locs ls hR hD hS hl
  exact lv_acmp_eq C.1 C.2.1 hd ht (fun q => kt q p e R s m args below meth c A C H locs ls hR hD hS hl) (fun q => kf q p e R s m args below meth c A C H locs ls hR hD hS hl)
theorem aw_acmp_ne {rx ry : Option Nat} {off : Int} (tgt : Nat) (hd : decode M.2.1 pc = .ok (.if_acmp .ne off, 3)) (ht : (pc : Int) + off = (tgt : Int)) (kt : ¬ rx = ry → AW l G M d mc ms P (tgt) (lv) (rest) h c0 s0) (kf : rx = ry → AW l G M d mc ms P (pc + 3) (lv) (rest) h c0 s0) : AW l G M d mc ms P (pc) (lv) (va_rf ry :: va_rf rx :: rest) h c0 s0 := by
  intro p e R s m args below meth c A C H locs ls hR hD hS hl
  exact lv_acmp_ne C.1 C.2.1 hd ht (fun q => kt q p e R s m args below meth c A C H locs ls hR hD hS hl) (fun q => kf q p e R s m args below meth c A C H locs ls hR hD hS hl)
theorem aw_ifnull {x : Option Nat} {off : Int} (tgt : Nat) (hd : decode M.2.1 pc = .ok (.ifnull off, 3)) (ht : (pc : Int) + off = (tgt : Int)) (kt : x = none → AW l G M d mc ms P (tgt) (lv) (rest) h c0 s0) (kf : ∀ a, x = some a → AW l G M d mc ms P (pc + 3) (lv) (rest) h c0 s0) : AW l G M d mc ms P (pc) (lv) (va_rf x :: rest) h c0 s0 := by
  intro p e R s m args below meth c A C H locs ls hR hD hS hl
  cases x with
  | none => exact lv_ifnullN C.1 C.2.1 hd ht (kt rfl p e R s m args below meth c A C H locs ls hR hD hS hl)
  | some a => exact lv_ifnull C.1 C.2.1 hd (kf a rfl p e R s m args below meth c A C H locs ls hR hD hS hl)
theorem aw_ifnonnull {x : Option Nat} {off : Int} (tgt : Nat) (hd : decode M.2.1 pc = .ok (.ifnonnull off, 3)) (ht : (pc : Int) + off = (tgt : Int)) (kt : ∀ a, x = some a → AW l G M d mc ms P (tgt) (lv) (rest) h c0 s0) (kf : x = none → AW l G M d mc ms P (pc + 3) (lv) (rest) h c0 s0) : AW l G M d mc ms P (pc) (lv) (va_rf x :: rest) h c0 s0 := by
  intro p e R s m args below meth c A C H locs ls hR hD hS hl
  cases x with
  | none => exact lv_ifnonnullN C.1 C.2.1 hd (kf rfl p e R s m args below meth c A C H locs ls hR hD hS hl)
  | some a => exact lv_ifnonnull C.1 C.2.1 hd ht (kt a rfl p e R s m args below meth c A C H locs ls hR hD hS hl)
theorem aw_tableOut {dflt lo hi : Int} {offs : Array Int} {len : Nat} {x : Int32} (tgt : Nat) (hd : decode M.2.1 pc = .ok (.tableswitch dflt lo hi offs, len)) (hx : x.toInt < lo ∨ hi < x.toInt) (ht : (pc : Int) + dflt = (tgt : Int)) (k : AW l G M d mc ms P (tgt) (lv) (rest) h c0 s0) : AW l G M d mc ms P (pc) (lv) (.int x :: rest) h c0 s0 := by
  intro p e R s m args below meth c A C H locs ls hR hD hS hl
  exact lv_tableOut C.1 C.2.1 hd hx ht (k p e R s m args below meth c A C H locs ls hR hD hS hl)
theorem aw_tableIn {dflt lo hi : Int} {offs : Array Int} {len : Nat} {x : Int32} {off : Int} (tgt : Nat) (hd : decode M.2.1 pc = .ok (.tableswitch dflt lo hi offs, len)) (h1 : ¬ x.toInt < lo) (h2 : ¬ hi < x.toInt) (ho : offs[(x.toInt - lo).toNat]? = some off) (ht : (pc : Int) + off = (tgt : Int)) (k : AW l G M d mc ms P (tgt) (lv) (rest) h c0 s0) : AW l G M d mc ms P (pc) (lv) (.int x :: rest) h c0 s0 := by
  intro p e R s m args below meth c A C H locs ls hR hD hS hl
  exact lv_tableIn C.1 C.2.1 hd h1 h2 ho ht (k p e R s m args below meth c A C H locs ls hR hD hS hl)
theorem aw_lookup {dflt : Int} {ps : Array (Int × Int)} {len : Nat} {x : Int32} {off : Int} (tgt : Nat) (hd : decode M.2.1 pc = .ok (.lookupswitch dflt ps, len)) (hp : (ps.toList.zip (ps.toList.drop 1)).all (fun (a, next) => a.1 < next.1) = true) (ho : Op.lookupswitch.offset ps.toList dflt x.toInt = off) (ht : (pc : Int) + off = (tgt : Int)) (k : AW l G M d mc ms P (tgt) (lv) (rest) h c0 s0) : AW l G M d mc ms P (pc) (lv) (.int x :: rest) h c0 s0 := by
  intro p e R s m args below meth c A C H locs ls hR hD hS hl
  exact lv_lookup C.1 C.2.1 hd hp ho ht (k p e R s m args below meth c A C H locs ls hR hD hS hl)
theorem aw_ldc {index : Nat} {v : Int32} (hw : Cond.constant M.1.cls index v ∈ lw_all) (hd : decode M.2.1 pc = .ok (.ldc index, 2)) (k : AW l G M d mc ms P (pc + 2) (lv) (.int v :: rest) h c0 s0) : AW l G M d mc ms P (pc) (lv) (rest) h c0 s0 := by
  intro p e R s m args below meth c A C H locs ls hR hD hS hl
  exact lv_ldc C.1 C.2.1 C.2.2.2.2.2.1 (C.2.2.2.2.2.2.1 _ hw) hd (k p e R s m args below meth c A C H locs ls hR hD hS hl)
theorem aw_ldc2 {index : Nat} {v : Int64} (hw : Cond.constantLong M.1.cls index v ∈ lw_all) (hd : decode M.2.1 pc = .ok (.ldc2_w index, 3)) (k : AW l G M d mc ms P (pc + 3) (lv) (.long v :: rest) h c0 s0) : AW l G M d mc ms P (pc) (lv) (rest) h c0 s0 := by
  intro p e R s m args below meth c A C H locs ls hR hD hS hl
  exact lv_ldc2 C.1 C.2.1 C.2.2.2.2.2.1 (C.2.2.2.2.2.2.1 _ hw) hd (k p e R s m args below meth c A C H locs ls hR hD hS hl)
theorem aw_eqv {pc2 : Nat} {lv2 : List (Nat × Value)} {st2 : List Value} {h2 : aH} (e1 : pc = pc2) (e2 : lv = lv2) (e3 : st = st2) (e4 : h = h2) (k : AW l G M d mc ms P pc2 lv2 st2 h2 c0 s0) : AW l G M d mc ms P pc lv st h c0 s0 := by
  subst e1; subst e2; subst e3; subst e4; exact k
/-- fewer locals, in another order -/
theorem aw_sub {lv' : List (Nat × Value)} (js : List Nat) (hj : lv_pick lv js = lv') (k : AW l G M d mc ms P pc lv' st h c0 s0) : AW l G M d mc ms P pc lv st h c0 s0 := by
  intro p e R s m args below meth c A C H locs ls hR hD hS hl
  exact k p e R s m args below meth c A C H locs ls hR hD hS (lv_sub hl js hj)
theorem aw_post {P2 : aR → aH → Prop} (hP : ∀ r h', P2 r h' → P r h') (k : AW l G M d mc ms P2 pc lv st h c0 s0) : AW l G M d mc ms P pc lv st h c0 s0 := by
  intro p e R s m args below meth c A C H locs ls hR hD hS hl T hT X
  obtain ⟨t, a1, o, b1, b2, b3⟩ := k p e R s m args below meth c A C H locs ls hR hD hS hl T hT X
  refine ⟨t, a1, o, b1, b2, ?_⟩
  rcases b3 with ⟨⟨⟨v, h', q1, q2, q3⟩, q4⟩, q5⟩ | ⟨q, q1, E, ce, L, ⟨⟨h', q2, q3⟩, q4⟩, q5⟩
  · exact Or.inl ⟨⟨⟨v, h', q1, hP _ _ q2, q3⟩, q4⟩, q5⟩
  · exact Or.inr ⟨q, q1, E, ce, L, ⟨⟨h', hP _ _ q2, q3⟩, q4⟩, q5⟩
/-- more cells and slots used -/
theorem aw_widen {c1 s1 : Nat} (hc : c0 ≤ c1) (hs : s0 ≤ s1) (k : AW l G M d mc ms P pc lv st h c1 s1) : AW l G M d mc ms P pc lv st h c0 s0 := by
  intro p e R s m args below meth c A C H locs ls hR hD hS hl
  exact W.widen (k := c1) (n := s1) hc hs (k p e R s m args below meth c A C H locs ls hR hD hS hl)
/-- things forgotten -/
theorem aw_weak {h2 : aH} (hh : ∀ a e, h2 a = some e → h a = some e) (k : AW l G M d mc ms P pc lv st h2 c0 s0) : AW l G M d mc ms P pc lv st h c0 s0 := by
  intro p e R s m args below meth c A C H locs ls hR hD hS hl
  exact k p e R s m args below meth c A C H locs ls (fun a x q => hR a x (hh a x q)) (fun a x q => hD a x (hh a x q)) hS hl
theorem aw_iret {v : Int32} (hr : M.2.2.2.1 = some .int) (hd : decode M.2.1 pc = .ok (.ireturn, 1)) (hp : P (.inl (some (.int v))) h) (hc : c0 ≤ mc) (hs : s0 ≤ ms) : AW l G M d mc ms P (pc) (lv) ([.int v]) h c0 s0 := by
  intro p e R s m args below meth c A C H locs ls hR hD hS hl
  exact W.widen hc hs (vx_ret (W.iret C.1 C.2.1 (C.2.2.2.1.trans hr) (fun t ht hW => ⟨⟨_, h, rfl, hp, by rw [ht]; exact hR, hD⟩, hS.F ht⟩) hS.2.2 hd C.2.2.2.2.2.2.2.1))
theorem aw_zret {v : Int32} {ty : FieldType} (hr : M.2.2.2.1 = some ty) (hn : narrow ty (.int v) = .int v) (hd : decode M.2.1 pc = .ok (.ireturn, 1)) (hp : P (.inl (some (.int v))) h) (hc : c0 ≤ mc) (hs : s0 ≤ ms) : AW l G M d mc ms P (pc) (lv) ([.int v]) h c0 s0 := by
  intro p e R s m args below meth c A C H locs ls hR hD hS hl
  exact W.widen hc hs (vx_ret (W.zret C.1 C.2.1 (C.2.2.2.1.trans hr) hn (fun t ht hW => ⟨⟨_, h, rfl, hp, by rw [ht]; exact hR, hD⟩, hS.F ht⟩) hS.2.2 hd C.2.2.2.2.2.2.2.1))
theorem aw_vret (hr : M.2.2.2.1 = none) (hd : decode M.2.1 pc = .ok (.return_, 1)) (hp : P (.inl none) h) (hc : c0 ≤ mc) (hs : s0 ≤ ms) : AW l G M d mc ms P (pc) (lv) ([]) h c0 s0 := by
  intro p e R s m args below meth c A C H locs ls hR hD hS hl
  exact W.widen hc hs (vx_ret (W.vret C.1 C.2.1 (C.2.2.2.1.trans hr) (fun t ht hW => ⟨⟨_, h, rfl, hp, by rw [ht]; exact hR, hD⟩, hS.F ht⟩) hS.2.2 hd C.2.2.2.2.2.2.2.1))
theorem aw_lret {v : Int64} (hr : M.2.2.2.1 = some .long) (hd : decode M.2.1 pc = .ok (.lreturn, 1)) (hp : P (.inl (some (.long v))) h) (hc : c0 ≤ mc) (hs : s0 ≤ ms) : AW l G M d mc ms P (pc) (lv) ([.long v]) h c0 s0 := by
  intro p e R s m args below meth c A C H locs ls hR hD hS hl
  exact W.widen hc hs (vx_ret (W.lret C.1 C.2.1 (C.2.2.2.1.trans hr) (fun t ht hW => ⟨⟨_, h, rfl, hp, by rw [ht]; exact hR, hD⟩, hS.F ht⟩) hS.2.2 hd C.2.2.2.2.2.2.2.1))
theorem aw_dret {v : UInt64} (hr : M.2.2.2.1 = some .double) (hd : decode M.2.1 pc = .ok (.dreturn, 1)) (hp : P (.inl (some (.double v))) h) (hc : c0 ≤ mc) (hs : s0 ≤ ms) : AW l G M d mc ms P (pc) (lv) ([.double v]) h c0 s0 := by
  intro p e R s m args below meth c A C H locs ls hR hD hS hl
  exact W.widen hc hs (vx_ret (W.dret C.1 C.2.1 (C.2.2.2.1.trans hr) (fun t ht hW => ⟨⟨_, h, rfl, hp, by rw [ht]; exact hR, hD⟩, hS.F ht⟩) hS.2.2 hd C.2.2.2.2.2.2.2.1))
theorem aw_aret {v : Value} {rt : FieldType} (hr : M.2.2.2.1 = some rt) (hrt : (∃ n, rt = .object n) ∨ ∃ t, rt = .array t) (hv : v = .null ∨ ∃ a, v = .ref a) (hd : decode M.2.1 pc = .ok (.areturn, 1)) (hp : P (.inl (some v)) h) (hc : c0 ≤ mc) (hs : s0 ≤ ms) : AW l G M d mc ms P (pc) (lv) ([v]) h c0 s0 := by
  intro p e R s m args below meth c A C H locs ls hR hD hS hl
  exact W.widen hc hs (vx_ret (W.aret C.1 C.2.1 (C.2.2.2.1.trans hr) hrt hv (fun t ht hW => ⟨⟨_, h, rfl, hp, by rw [ht]; exact hR, hD⟩, hS.F ht⟩) hS.2.2 hd C.2.2.2.2.2.2.2.1))
end AWI
