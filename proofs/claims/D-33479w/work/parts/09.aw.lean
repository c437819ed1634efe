/-! AW: a layer over the kit's W. The heap of the claim's own cells is a function; a judgement a frame, a contract a method. -/
set_option maxRecDepth 100000
abbrev aE : Type := (FieldType × vp_A) ⊕ (Nat × List Value)
abbrev aH : Type := Nat → Option aE
abbrev aG : Type := (va_G × (FieldType → ClassId)) × (Nat × Nat × Nat × Nat) × (Nat × Nat × (Nat → Int32))
abbrev aM : Type := MethodName × ByteArray × Nat × Option FieldType × List (Nat × Nat × Nat × Nat)
abbrev aR : Type := Option Value ⊕ String
def aUp (h : aH) (a : Nat) (e : aE) : aH := fun q => if q = a then some e else h q
abbrev aInts (ty : FieldType) (n : Nat) (f : Nat → Int32) : aE := .inl (ty, n, .inl f)
abbrev aLongs (n : Nat) (f : Nat → Int64) : aE := .inl (.long, n, .inr (.inl f))
abbrev aRefs (ty : FieldType) (n : Nat) (f : Nat → Option Nat) : aE := .inl (ty, n, .inr (.inr (.inr (.inr f))))
abbrev aObj (ci : Nat) (fs : List Value) : aE := .inr (ci, fs)
def aCl : List vw_C := [(RX6, TX6, 24), (RX1, TX1, 8), (RX2, TX2, 2), (RX3, TX3, 8), (RX4, TX4, 3), (RX5, TX5, 3), (RX7, TX7, 2), (RX8, TX8, 4), (RX9, TX9, 4), (RJ2, TJ2, 3), (RJ8, TJ8, 4)]
def aTy : List FieldType := [.int, .boolean, .char, .byte, .long, .object "java/lang/Object", .object "EdgeLetters$Desk", .array .int]
def aXw : Cond → Bool
  | .fieldLinkNest .. => true
  | .methodLinkNest .. => true
  | .castable .. => true
  | .declares .. => true
  | .publicMethod .. => true
  | .privateMethod .. => true
  | .unhidden .. => true
  | .arrayOver _ => true
  | _ => false
def aIf : List (String × MethodName × MethodName) := [("java/util/ArrayList", ⟨"java/util/List", "size", "()I"⟩, ⟨"java/util/ArrayList", "size", "()I"⟩), ("java/util/ArrayList", ⟨"java/util/List", "add", "(Ljava/lang/Object;)Z"⟩, ⟨"java/util/ArrayList", "add", "(Ljava/lang/Object;)Z"⟩), ("java/util/ArrayList", ⟨"java/util/List", "get", "(I)Ljava/lang/Object;"⟩, ⟨"java/util/ArrayList", "get", "(I)Ljava/lang/Object;"⟩), ("java/util/ArrayList", ⟨"java/util/List", "remove", "(I)Ljava/lang/Object;"⟩, ⟨"java/util/ArrayList", "remove", "(I)Ljava/lang/Object;"⟩), ("java/util/ArrayList", ⟨"java/util/List", "isEmpty", "()Z"⟩, ⟨"java/util/ArrayList", "isEmpty", "()Z"⟩), ("EdgeLetters$Arrangements$1", ⟨"java/util/Iterator", "hasNext", "()Z"⟩, ⟨"EdgeLetters$Arrangements$1", "hasNext", "()Z"⟩), ("EdgeLetters$Arrangements$1", ⟨"java/util/Iterator", "next", "()Ljava/lang/Object;"⟩, ⟨"EdgeLetters$Arrangements$1", "next", "()Ljava/lang/Object;"⟩)]
def aNcs : List (String × String) := [("java/lang/IllegalArgumentException", "java/lang/IndexOutOfBoundsException"), ("java/lang/IllegalStateException", "java/lang/IndexOutOfBoundsException"), ("java/lang/IllegalStateException", "java/lang/IllegalArgumentException")]
def aLit : Nat → Int32 := fun j => ([61, 42, 58, 33] : List Int32).getD j 0
/-- static things that nobody writes -/
def aSW (G : aG) (A : Nat → Prop) (U : State) (H : Heap) : Prop :=
  va_Z "java/util/ArrayList" "DEFAULTCAPACITY_EMPTY_ELEMENTDATA" "[Ljava/lang/Object;" (.ref G.2.1.1) A U H ∧ va_T (.object "java/lang/Object") G.2.1.1 0 (fun _ => .null) A U H ∧
  va_Z "java/lang/String" "COMPACT_STRINGS" "Z" (.int 1) A U H ∧ vx_Zq Bundle.tN "UNASSIGNED_STACK" Bundle.steD A U H ∧ vx_Zq Bundle.tN "SUPPRESSED_SENTINEL" Bundle.listD A U H ∧
  va_O "java/lang/String" G.2.1.2.1 A U H ∧ va_OF "java/lang/String" "coder" "B" (.int 0) G.2.1.2.1 A U H ∧ va_OF "java/lang/String" "value" "[B" (.ref G.2.1.2.2.1) G.2.1.2.1 A U H ∧ va_T .byte G.2.1.2.2.1 4 (fun j => .int (aLit j)) A U H ∧
  va_T .int G.2.2.1 G.2.2.2.1 (fun j => .int (G.2.2.2.2 j)) A U H ∧ va_Zq "jdk/internal/util/Preconditions" "SIOOBE_FORMATTER" "Ljava/util/function/BiFunction;" A U H
theorem aSW.moved {G : aG} {A : Nat → Prop} {u U : State} {H : Heap} (hvm : u.vm.Alike U.vm) (h : aSW G A u H) : aSW G A U H := by
  obtain ⟨h1, h2, h3, h4, h5, h6, h7, h8, h9, h10, h11⟩ := h
  exact ⟨h1.moved hvm, h2.moved hvm, h3.moved hvm, h4.moved hvm, h5.moved hvm, va_O.moved hvm h6, va_OF.moved hvm h7, va_OF.moved hvm h8, h9.moved hvm, h10.moved hvm, h11.moved hvm⟩
theorem aSW.kept {G : aG} {A : Nat → Prop} {U : State} {H H1 : Heap} (h : aSW G A U H) (hq : ∀ a : Nat, a < H.size → ¬ A a → H1[a]? = H[a]?) : aSW G A U H1 := by
  obtain ⟨h1, h2, h3, h4, h5, h6, h7, h8, h9, h10, h11⟩ := h
  exact ⟨h1.kept hq, h2.kept hq, h3.kept hq, h4.kept hq, h5.kept hq, va_O.kept h6 hq, va_OF.kept h7 hq, va_OF.kept h8 hq, h9.kept hq, h10.kept hq, h11.kept hq⟩
theorem aSW.narrow {G : aG} {A B : Nat → Prop} {U : State} {H : Heap} (h : aSW G A U H) (hAB : ∀ q, B q → A q) : aSW G B U H := by
  obtain ⟨h1, h2, h3, h4, h5, h6, h7, h8, h9, h10, h11⟩ := h
  exact ⟨h1.narrow hAB, h2.narrow hAB, h3.narrow hAB, h4.narrow hAB, h5.narrow hAB, va_O.narrow h6 hAB, va_OF.narrow h7 hAB, va_OF.narrow h8 hAB, h9.narrow hAB, h10.narrow hAB, h11.narrow hAB⟩
theorem aXw_warm {w : Cond} (hw : aXw w = true) {s U : State} (hW : s.WarmedH U.vm) (h : va_Nw w s) : va_Nw w U := by
  cases w with
  | fieldLinkNest a i b n d q => exact va_Nw.warmF hW h
  | methodLinkNest a i x q => exact va_Nw.warmM hW h
  | castable C T => exact va_Nw.warmC hW h
  | declares x => exact va_Nw.warmD hW h
  | publicMethod x => exact va_tabs rfl (rfl : (s.setVm U.vm).vm = U.vm) (by rw [Cond.publicMethod_setVm hW.alike]; exact h)
  | privateMethod x => exact va_tabs rfl (rfl : (s.setVm U.vm).vm = U.vm) (by rw [Cond.privateMethod_setVm hW.alike]; exact h)
  | unhidden C n d => exact va_tabs rfl (rfl : (s.setVm U.vm).vm = U.vm) (by rw [Cond.unhidden_setVm hW.alike]; exact h)
  | arrayOver t =>
    have h1 : (Cond.arrayOver t).before #[] (s.setVm U.vm) = true := by rw [Cond.arrayOver_setVmC hW.alike]; exact h
    have e : (Cond.arrayOver t).before #[] (s.setVm U.vm) = (Cond.arrayOver t).before #[] U := by
      unfold Cond.before Cond.holds
      simp only [Cond.value]
      rfl
    exact e.symm.trans h1
  | _ => exact absurd hw (by simp [aXw])
/-- all that is known of the tables and of static things -/
def aKX (G : aG) (A : Nat → Prop) (U : State) (H : Heap) : Prop :=
  va_K G.1.1 aCl (aTy.map fun ty => (G.1.2 ty, ty)) U ∧ (∀ w ∈ lw_tbl, aXw w = true → va_Nw w U) ∧ (∀ q ∈ aIf, va_Fw q.1 q.2.1 q.2.2 U) ∧ (∀ q ∈ aNcs, va_Nc q.1 q.2 U) ∧
  vk_R "EdgeLetters$CommandReader" 76 "=*:!" G.2.1.2.1 U ∧ va_Mi "[Ljava/lang/Object;" G.2.1.2.2.2 U ∧ aSW G A U H
theorem aIf_ok : ∀ q ∈ aIf, q.2.1.cls ≠ "java/lang/invoke/MethodHandle" ∧ q.2.1.cls ≠ "java/lang/invoke/VarHandle" := by decide +kernel
theorem aKX.go {G : aG} {A B : Nat → Prop} {s U : State} {H H1 : Heap} (h : aKX G A s H) (hW : s.WarmedH U.vm) (hq : ∀ a : Nat, a < H.size → ¬ A a → H1[a]? = H[a]?) (hAB : ∀ q, B q → A q) : aKX G B U H1 := by
  obtain ⟨h1, h2, h3, h4, h5, h6, h7⟩ := h
  exact ⟨va_K.moved hW.alike h1, fun w hw hx => aXw_warm hx hW (h2 w hw hx), fun q hq => va_Fw.moved (aIf_ok q hq) hW.alike (h3 q hq), fun q hq => va_Nc.moved hW.alike (h4 q hq), vk_R.warm hW h5, va_Mi.moved hW.alike h6, ((h7.kept hq).narrow hAB).moved hW.alike⟩
def aCv (G : aG) : aE → va_E
  | .inl x => .inl (G.1.2 x.1, x.2)
  | .inr o => .inr o
def aRel (G : aG) (h : aH) (H : Heap) : Prop := ∀ (a : Nat) (e : aE), h a = some e → va_at G.1.1 aCl (a, aCv G e) H
def aDom (h : aH) (A : Nat → Prop) : Prop := ∀ (a : Nat) (e : aE), h a = some e → A a
def aOf (h : aH) (sz : Nat) : Nat → Prop := fun q => (∃ e, h q = some e) ∨ sz ≤ q
def aQ (G : aG) (P : aR → aH → Prop) (A : Nat → Prop) : Array Value → State → Outcome → State → Prop := fun _ st oc t => (∃ (v : Option Value) (h' : aH), oc = .returned v ∧ P (.inl v) h' ∧ aRel G h' t.heap ∧ aDom h' A) ∧ va_F A st t
def aX (G : aG) (P : aR → aH → Prop) (A : Nat → Prop) : String → State → State → Prop := fun E st t => (∃ h' : aH, P (.inr E) h' ∧ aRel G h' t.heap ∧ aDom h' A) ∧ va_F A st t
def aCtx (l : Launch) (G : aG) (M : aM) (d mc ms : Nat) (A : Nat → Prop) (p : Program) (R : Room) (s : State) (m : MethodId) (args : Array Value) (meth : Method) (c : Code) : Prop :=
  p.tables.exec = Jvm.exec ∧ c.code = M.2.1 ∧ c.maxLocals = M.2.2.1 ∧ meth.sig.returnType = M.2.2.2.1 ∧ meth.name = M.1.name ∧ s.vm.findClass M.1.cls = some m.cls ∧ (∀ w ∈ lw_all, w.before args s = true) ∧ meth.locks = false ∧
  (d ≤ R.frames ∧ 64 * d ≤ R.locals ∧ mc ≤ R.cells ∧ ms ≤ R.slots) ∧ aKX G A s s.heap ∧ c.exceptionTable.toList = tableOf M.2.2.2.2 ∧ l.stackTraces = false ∧ (∀ q, s.heap.size ≤ q → A q)
/-- the method's frame at pc, with these locals and this stack, over this heap, comes to its end with P -/
def AW (l : Launch) (G : aG) (M : aM) (d mc ms : Nat) (P : aR → aH → Prop) (pc : Nat) (lv : List (Nat × Value)) (st : List Value) (h : aH) (c0 s0 : Nat) : Prop :=
  ∀ (p : Program) (e : Env) (R : Room) (s : State) (m : MethodId) (args : Array Value) (below : List Frame) (meth : Method) (c : Code) (A : Nat → Prop), aCtx l G M d mc ms A p R s m args meth c →
    ∀ (H : Heap) (locs : List Loc) (ls : Array Slot), aRel G h H → aDom h A → va_S A s.heap H locs → lv_has ls M.2.2.1 lv →
      W p l e R s m args below meth c H locs c0 s0 (vx_MQ below (aQ G P A) (aX G P A) args s mc ms A) (F0 m pc ls st)
/-- the same frame, a thing of class E thrown over it -/
def AX (l : Launch) (G : aG) (M : aM) (d mc ms : Nat) (P : aR → aH → Prop) (pc : Nat) (lv : List (Nat × Value)) (h : aH) (E : String) (c0 s0 : Nat) : Prop :=
  ∀ (p : Program) (e : Env) (R : Room) (s : State) (m : MethodId) (args : Array Value) (below : List Frame) (meth : Method) (c : Code) (A : Nat → Prop), aCtx l G M d mc ms A p R s m args meth c →
    ∀ (H : Heap) (locs : List Loc) (ls : Array Slot) (rest : List Value) (q : Addr) (ce : Cell), aRel G h H → aDom h A → va_S A s.heap H locs → lv_has ls M.2.2.1 lv → H[q]? = some ce → ce.vm = .none → s.vm.findClass E = some ce.cls →
      vx_W p l e R s m args below meth c H locs c0 s0 (vx_MQ below (aQ G P A) (aX G P A) args s mc ms A) (F0 m pc ls rest) q
/-- a method's contract -/
def aC (l : Launch) (G : aG) (M : aM) (ws : List Cond) (d mc ms : Nat) (as : List Value) (h : aH) (P : aR → aH → Prop) : Prop :=
  ∀ sz : Nat, vx_Met l M.1 ws ({ frames := d, cells := mc, slots := ms, locals := 64 * d } : Room) (va_Pc as (fun U => U.heap.size = sz ∧ aRel G h U.heap ∧ aKX G (aOf h sz) U U.heap)) (aQ G P (aOf h sz)) (aX G P (aOf h sz)) mc ms (aOf h sz)
theorem aDom.self {h : aH} {sz : Nat} : aDom h (aOf h sz) := fun a e he => Or.inl ⟨e, he⟩
section AWR
variable {l : Launch} {G : aG} {M : aM} {d mc ms : Nat} {P : aR → aH → Prop} {pc : Nat} {lv : List (Nat × Value)} {st rest : List Value} {h : aH} {c0 s0 : Nat}
theorem aC_of {as : List Value} (hh : M.2.2.2.2 = []) (hy : plainName M.1.cls = true) (hn : (lg_sl as).length ≤ M.2.2.1) (hl : l.stackTraces = false)
    (k : AW l G M d mc ms P 0 (lv_args 0 as) [] h 0 0) : aC l G M (ws_ M.1 M.2.1 M.2.2.1 M.2.2.2.1) d mc ms as h P := by
  intro sz
  refine vx_ofW (cc := M.2.1) (maxL := M.2.2.1) (ret := M.2.2.2.1) hy rfl ?_
  intro p e s m args below meth c s₁ B hml htab hv
  obtain ⟨rfl, hsz, hR, hK⟩ := hv
  have hts := atoms_spec (ws := ws_ M.1 M.2.1 M.2.2.1 M.2.2.2.1) B.pre
  have hts : ∀ w ∈ lw_all, w.before _ s = true := fun w h => hts w (List.mem_cons_of_mem _ h)
  subst hsz
  have hl' := lv_entry as (n := M.2.2.1) hn
  rw [lg_entry_eq]
  have htab2 : c.exceptionTable.toList = tableOf M.2.2.2.2 := by
    rw [hh]
    cases hc : c.exceptionTable.toList with
    | nil => rfl
    | cons x y => exact absurd (htab x (by rw [hc]; exact List.mem_cons_self)) id
  exact k p e _ s m as.toArray below meth c (aOf h s.heap.size) ⟨B.exec, B.bytes, hml, B.returns, (name_of_methodNamed B.named B.method).1, findClass_of_methodNamed B.named, hts, B.notSynchronized, ⟨Nat.le_refl _, Nat.le_refl _, Nat.le_refl _, Nat.le_refl _⟩, hK, htab2, hl, fun q hq => Or.inr hq⟩ s.heap [] _ hR aDom.self va_S.rf hl'
theorem aC_ofH {as : List Value} (hy : plainName M.1.cls = true) (hn : (lg_sl as).length ≤ M.2.2.1) (hl : l.stackTraces = false)
    (k : AW l G M d mc ms P 0 (lv_args 0 as) [] h 0 0) : aC l G M (wsW_ M.1 M.2.1 M.2.2.1 M.2.2.2.1 M.2.2.2.2) d mc ms as h P := by
  intro sz
  refine vx_ofWH (cc := M.2.1) (maxL := M.2.2.1) (ret := M.2.2.2.1) hy rfl ?_
  intro p e s m args below meth c s₁ B hml hv
  obtain ⟨rfl, hsz, hR, hK⟩ := hv
  have hts0 := atoms_spec (ws := wsW_ M.1 M.2.1 M.2.2.1 M.2.2.2.1 M.2.2.2.2) B.pre
  have hts : ∀ w ∈ lw_all, w.before _ s = true := fun w h => hts0 w (List.mem_cons_of_mem _ h)
  subst hsz
  have hl' := lv_entry as (n := M.2.2.1) hn
  rw [lg_entry_eq]
  exact k p e _ s m as.toArray below meth c (aOf h s.heap.size) ⟨B.exec, B.bytes, hml, B.returns, (name_of_methodNamed B.named B.method).1, findClass_of_methodNamed B.named, hts, B.notSynchronized, ⟨Nat.le_refl _, Nat.le_refl _, Nat.le_refl _, Nat.le_refl _⟩, hK, vx_table (x := M.1) B (hts0 _ List.mem_cons_self), hl, fun q hq => Or.inr hq⟩ s.heap [] _ hR aDom.self va_S.rf hl'
end AWR
