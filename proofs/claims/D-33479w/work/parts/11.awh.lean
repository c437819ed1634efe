/-! AW's rules of the heap, and of calls (printed by awheap.py) -/
set_option maxRecDepth 100000
theorem aRel.one {G : aG} {h : aH} {H : Heap} {a : Nat} {e : aE} (hR : aRel G h H) (he : h a = some e) : va_P G.1.1 aCl [(a, aCv G e)] H := by
  intro k q hq
  cases k with
  | zero => cases hq; exact hR a e he
  | succ k => simp at hq
theorem aRel.lt {G : aG} {h : aH} {H : Heap} {a : Nat} {e : aE} (hR : aRel G h H) (he : h a = some e) : a < H.size := (hR a e he).lt
theorem aRel.set {G : aG} {h : aH} {H H1 : Heap} {a : Nat} {e : aE} (hR : aRel G h H) (he : va_at G.1.1 aCl (a, aCv G e) H1) (oq : ∀ q : Nat, q ≠ a → H1[q]? = H[q]?) : aRel G (aUp h a e) H1 := by
  intro q x hq
  unfold aUp at hq
  by_cases e9 : q = a
  · rw [if_pos e9] at hq; cases hq; rw [e9]; exact he
  · rw [if_neg e9] at hq; exact (hR q x hq).kept (oq q e9)
theorem aDom.set {h : aH} {A : Nat → Prop} {a : Nat} {e : aE} (hD : aDom h A) (ha : A a) : aDom (aUp h a e) A := by
  intro q x hq
  unfold aUp at hq
  by_cases e9 : q = a
  · rw [e9]; exact ha
  · rw [if_neg e9] at hq; exact hD q x hq
theorem aRel.push {G : aG} {h : aH} {H H1 : Heap} {e : aE} (hR : aRel G h H) (he : va_at G.1.1 aCl (H.size, aCv G e) H1) (oq : ∀ q : Nat, q < H.size → H1[q]? = H[q]?) : aRel G (aUp h H.size e) H1 := by
  intro q x hq
  unfold aUp at hq
  by_cases e9 : q = H.size
  · rw [if_pos e9] at hq; cases hq; rw [e9]; exact he
  · rw [if_neg e9] at hq; exact (hR q x hq).kept (oq q (hR.lt hq))
theorem aRel.new {G : aG} {h : aH} {H : Heap} (hR : aRel G h H) : h H.size = none := by
  cases hq : h H.size with
  | none => rfl
  | some e => exact absurd (hR.lt hq) (Nat.lt_irrefl _)
theorem aK_ty {G : aG} {A : Nat → Prop} {U : State} {H : Heap} (hK : aKX G A U H) (j : Nat) {ty : FieldType} (hj : aTy[j]? = some ty) : (aTy.map fun ty => (G.1.2 ty, ty))[j]? = some (G.1.2 ty, ty) := by
  rw [List.getElem?_map, hj]; rfl
/-- a class's own words are among all -/
abbrev aIn (C : String) (T : u_T) (N : Nat) : Prop := ∀ w ∈ u_ws C T N, w ∈ lw_all
theorem aSame {own C n d : String} {s : State} {args : Array Value} (hts : ∀ w ∈ lw_all, w.before args s = true) (h : own = C ∨ Cond.sameField own C n d ∈ lw_all) : ∀ x, s.fieldFound? C n d = some x → s.fieldFound? own n d = some x := by
  intro x hx
  rcases h with h | h
  · rw [h]; exact hx
  · have h1 := hts _ h
    cases hr : s.fieldFound? own n d with
    | none => simp [Cond.before, Cond.holds, Cond.value, hr] at h1
    | some y =>
      obtain ⟨c, k, i, f⟩ := y
      have h2 := Cond.sameField_spec hr h1
      rw [hx] at h2
      exact h2.symm
section AWH
variable {l : Launch} {G : aG} {M : aM} {d mc ms : Nat} {P : aR → aH → Prop} {pc : Nat} {lv : List (Nat × Value)} {st rest : List Value} {h : aH} {c0 s0 : Nat}
theorem aw_get {ref Cn : String} {T : u_T} {N ci index : Nat} {a : Nat} {fs : List Value} {v : Value} (he : h a = some (.inr (ci, fs))) (hc : aCl[ci]? = some (Cn, T, N)) (hin : aIn Cn T N) (k : Nat) (hk : k < N) (hw : Cond.fieldLink M.1.cls index ref (T k).2.1 (T k).2.2.1 ∈ lw_all) (hsm : ref = (T k).1 ∨ Cond.sameField ref (T k).1 (T k).2.1 (T k).2.2.1 ∈ lw_all) (hv : fs[k]? = some v) (hd : decode M.2.1 pc = .ok (.getfield index, 3)) (kk : AW l G M d mc ms P (pc + 3) (lv) (v :: rest) (h) (c0) (s0)) : AW l G M d mc ms P (pc) (lv) (.ref a :: rest) (h) (c0) (s0) := by
  intro p e R s m args below meth c A C H locs ls hR hD hS hl
  have C0 := C
  obtain ⟨hx, hb, hml, hret, hnm, hown, hts, hlk, hroom, hK, htab, hst, hA⟩ := C
  exact va_get hx hb hts hin hown hK.1 (hR.one he) 0 rfl hc k hk (hts _ hw) (aSame hts hsm) hv hd (kk p e R s m args below meth c A C0 H locs ls hR hD hS hl)
theorem aw_getN {ref Cn host : String} {T : u_T} {N ci index : Nat} {a : Nat} {fs : List Value} {v : Value} (he : h a = some (.inr (ci, fs))) (hc : aCl[ci]? = some (Cn, T, N)) (hin : aIn Cn T N) (k : Nat) (hk : k < N) (hw : Cond.fieldLinkNest M.1.cls index ref (T k).2.1 (T k).2.2.1 host ∈ lw_tbl) (hsm : ref = (T k).1 ∨ Cond.sameField ref (T k).1 (T k).2.1 (T k).2.2.1 ∈ lw_all) (hv : fs[k]? = some v) (hd : decode M.2.1 pc = .ok (.getfield index, 3)) (kk : AW l G M d mc ms P (pc + 3) (lv) (v :: rest) (h) (c0) (s0)) : AW l G M d mc ms P (pc) (lv) (.ref a :: rest) (h) (c0) (s0) := by
  intro p e R s m args below meth c A C H locs ls hR hD hS hl
  have C0 := C
  obtain ⟨hx, hb, hml, hret, hnm, hown, hts, hlk, hroom, hK, htab, hst, hA⟩ := C
  exact va_getN hx hb hts hin hown hK.1 (hR.one he) 0 rfl hc k hk (va_Nw.use rfl (hK.2.1 _ hw rfl)) (aSame hts hsm) hv hd (kk p e R s m args below meth c A C0 H locs ls hR hD hS hl)
theorem aw_put {ref Cn : String} {T : u_T} {ty0 : Nat → FieldType} {N ci index : Nat} {a : Nat} {fs : List Value} {v : Value} {h' : aH} (he : h a = some (.inr (ci, fs))) (hc : aCl[ci]? = some (Cn, T, N)) (hin : aIn Cn T N) (hty : ∀ k, k < N → parseFieldDescriptor (T k).2.2.1 = some (ty0 k)) (hne : ∀ a, a < N → ∀ b, b < N → a ≠ b → (T a).2.1 ≠ (T b).2.1) (k : Nat) (hk : k < N) (hw : Cond.fieldLink M.1.cls index ref (T k).2.1 (T k).2.2.1 ∈ lw_all) (hsm : ref = (T k).1 ∨ Cond.sameField ref (T k).1 (T k).2.1 (T k).2.2.1 ∈ lw_all) (hfin : (T k).2.2.2 = false) (hn : narrow (ty0 k) v = v) (hft : fits (ty0 k) v = true) (hlt : k < fs.length) (hu : aUp h a (.inr (ci, fs.set k v)) = h') (hd : decode M.2.1 pc = .ok (.putfield index, 3)) (kk : AW l G M d mc ms P (pc + 3) (lv) (rest) (h') (c0) (s0)) : AW l G M d mc ms P (pc) (lv) (v :: .ref a :: rest) (h) (c0) (s0) := by
  intro p e R s m args below meth c A C H locs ls hR hD hS hl
  have C0 := C
  obtain ⟨hx, hb, hml, hret, hnm, hown, hts, hlk, hroom, hK, htab, hst, hA⟩ := C
  subst hu
  have hap := va_apart (own := M.1.cls) hts hin ty0 hty hne hK.1 hc
  obtain ⟨r, h1, cell, q1, q2, q3, q4⟩ := hR a _ he
  have hr : r = (Cn, T, N) := Option.some.inj (h1.symm.trans hc)
  subst hr
  obtain ⟨hS9, hfc, kC, hkC, hkind⟩ := hK.1.1 ci _ hc
  obtain ⟨cf, kf, fi, f, hi, hsl⟩ := hS9 k hk
  have hlay := hts _ (hin _ (u_in_lay hk))
  unfold u_lay at hlay
  rw [if_neg (by rw [hfin]; decide)] at hlay
  have hst9 := (u_facts hfc hkC (u_lays hts hin hk) hi).1
  have h6 := u_store hfc hkC hkind hlay hi (hty k hk) hn hft
  refine W.putK hx hb (f := f) ⟨hown, hts _ hw, ⟨_, _, _, aSame hts hsm _ hi⟩, hst9⟩ (by rw [q2]; exact h6) q1 q3 (by rw [hsl]; exact k2_hasslot (q4 k hk)) rfl rfl hd fun H' e1 e2 e3 => ?_
  rw [hsl] at e1 ⊢
  exact kk p e R s m args below meth c A C0 H' _ ls (hR.set ⟨_, hc, t_OB.to (V := updV (vp_V fs) k v) ⟨_, e1, q2, q3, t_set q4 hap hk v⟩ (fun j _ => vp_updV_set hlt v j)⟩ e3) (hD.set (hD a _ he)) (hS.put e2 e3 (hD a _ he)) hl
theorem aw_putN {ref Cn host : String} {T : u_T} {ty0 : Nat → FieldType} {N ci index : Nat} {a : Nat} {fs : List Value} {v : Value} {h' : aH} (he : h a = some (.inr (ci, fs))) (hc : aCl[ci]? = some (Cn, T, N)) (hin : aIn Cn T N) (hty : ∀ k, k < N → parseFieldDescriptor (T k).2.2.1 = some (ty0 k)) (hne : ∀ a, a < N → ∀ b, b < N → a ≠ b → (T a).2.1 ≠ (T b).2.1) (k : Nat) (hk : k < N) (hw : Cond.fieldLinkNest M.1.cls index ref (T k).2.1 (T k).2.2.1 host ∈ lw_tbl) (hsm : ref = (T k).1 ∨ Cond.sameField ref (T k).1 (T k).2.1 (T k).2.2.1 ∈ lw_all) (hfin : (T k).2.2.2 = false) (hn : narrow (ty0 k) v = v) (hft : fits (ty0 k) v = true) (hlt : k < fs.length) (hu : aUp h a (.inr (ci, fs.set k v)) = h') (hd : decode M.2.1 pc = .ok (.putfield index, 3)) (kk : AW l G M d mc ms P (pc + 3) (lv) (rest) (h') (c0) (s0)) : AW l G M d mc ms P (pc) (lv) (v :: .ref a :: rest) (h) (c0) (s0) := by
  intro p e R s m args below meth c A C H locs ls hR hD hS hl
  have C0 := C
  obtain ⟨hx, hb, hml, hret, hnm, hown, hts, hlk, hroom, hK, htab, hst, hA⟩ := C
  subst hu
  have hap := va_apart (own := M.1.cls) hts hin ty0 hty hne hK.1 hc
  obtain ⟨r, h1, cell, q1, q2, q3, q4⟩ := hR a _ he
  have hr : r = (Cn, T, N) := Option.some.inj (h1.symm.trans hc)
  subst hr
  obtain ⟨hS9, hfc, kC, hkC, hkind⟩ := hK.1.1 ci _ hc
  obtain ⟨cf, kf, fi, f, hi, hsl⟩ := hS9 k hk
  have hlay := hts _ (hin _ (u_in_lay hk))
  unfold u_lay at hlay
  rw [if_neg (by rw [hfin]; decide)] at hlay
  have hst9 := (u_facts hfc hkC (u_lays hts hin hk) hi).1
  have h6 := u_store hfc hkC hkind hlay hi (hty k hk) hn hft
  refine va_WputK hx hb (f := f) hown (va_Nw.use rfl (hK.2.1 _ hw rfl)) (aSame hts hsm _ hi) hst9 (by rw [q2]; exact h6) q1 q3 (by rw [hsl]; exact k2_hasslot (q4 k hk)) rfl rfl hd fun H' e1 e2 e3 => ?_
  rw [hsl] at e1 ⊢
  exact kk p e R s m args below meth c A C0 H' _ ls (hR.set ⟨_, hc, t_OB.to (V := updV (vp_V fs) k v) ⟨_, e1, q2, q3, t_set q4 hap hk v⟩ (fun j _ => vp_updV_set hlt v j)⟩ e3) (hD.set (hD a _ he)) (hS.put e2 e3 (hD a _ he)) hl
theorem aw_iald {a n : Nat} {f : Nat → Int32} {i : Int32} (he : h a = some (aInts .int n f)) (hin : vp_in i n) (hd : decode M.2.1 pc = .ok (.iaload, 1)) (kk : AW l G M d mc ms P (pc + 1) (lv) (.int (f i.toNatClampNeg) :: rest) (h) (c0) (s0)) : AW l G M d mc ms P (pc) (lv) (.int i :: .ref a :: rest) (h) (c0) (s0) := by
  intro p e R s m args below meth c A C H locs ls hR hD hS hl
  have C0 := C
  obtain ⟨hx, hb, hml, hret, hnm, hown, hts, hlk, hroom, hK, htab, hst, hA⟩ := C
  exact va_iald hx hb hK.1 (hR.one he) 0 0 rfl (aK_ty hK 0 rfl) hin hd (kk p e R s m args below meth c A C0 H locs ls hR hD hS hl)
theorem aw_zald {a n : Nat} {f : Nat → Int32} {i : Int32} (he : h a = some (aInts .boolean n f)) (hin : vp_in i n) (hd : decode M.2.1 pc = .ok (.baload, 1)) (kk : AW l G M d mc ms P (pc + 1) (lv) (.int (f i.toNatClampNeg) :: rest) (h) (c0) (s0)) : AW l G M d mc ms P (pc) (lv) (.int i :: .ref a :: rest) (h) (c0) (s0) := by
  intro p e R s m args below meth c A C H locs ls hR hD hS hl
  have C0 := C
  obtain ⟨hx, hb, hml, hret, hnm, hown, hts, hlk, hroom, hK, htab, hst, hA⟩ := C
  exact va_zald hx hb hK.1 (hR.one he) 0 1 rfl (aK_ty hK 1 rfl) hin hd (kk p e R s m args below meth c A C0 H locs ls hR hD hS hl)
theorem aw_cald {a n : Nat} {f : Nat → Int32} {i : Int32} (he : h a = some (aInts .char n f)) (hin : vp_in i n) (hd : decode M.2.1 pc = .ok (.caload, 1)) (kk : AW l G M d mc ms P (pc + 1) (lv) (.int (f i.toNatClampNeg) :: rest) (h) (c0) (s0)) : AW l G M d mc ms P (pc) (lv) (.int i :: .ref a :: rest) (h) (c0) (s0) := by
  intro p e R s m args below meth c A C H locs ls hR hD hS hl
  have C0 := C
  obtain ⟨hx, hb, hml, hret, hnm, hown, hts, hlk, hroom, hK, htab, hst, hA⟩ := C
  exact va_cald hx hb hK.1 (hR.one he) 0 2 rfl (aK_ty hK 2 rfl) hin hd (kk p e R s m args below meth c A C0 H locs ls hR hD hS hl)
theorem aw_bald {a n : Nat} {f : Nat → Int32} {i : Int32} (he : h a = some (aInts .byte n f)) (hin : vp_in i n) (hd : decode M.2.1 pc = .ok (.baload, 1)) (kk : AW l G M d mc ms P (pc + 1) (lv) (.int (f i.toNatClampNeg) :: rest) (h) (c0) (s0)) : AW l G M d mc ms P (pc) (lv) (.int i :: .ref a :: rest) (h) (c0) (s0) := by
  intro p e R s m args below meth c A C H locs ls hR hD hS hl
  have C0 := C
  obtain ⟨hx, hb, hml, hret, hnm, hown, hts, hlk, hroom, hK, htab, hst, hA⟩ := C
  exact va_bald hx hb hK.1 (hR.one he) 0 3 rfl (aK_ty hK 3 rfl) hin hd (kk p e R s m args below meth c A C0 H locs ls hR hD hS hl)
theorem aw_lald {a n : Nat} {f : Nat → Int64} {i : Int32} (he : h a = some (aLongs n f)) (hin : vp_in i n) (hd : decode M.2.1 pc = .ok (.laload, 1)) (kk : AW l G M d mc ms P (pc + 1) (lv) (.long (f i.toNatClampNeg) :: rest) (h) (c0) (s0)) : AW l G M d mc ms P (pc) (lv) (.int i :: .ref a :: rest) (h) (c0) (s0) := by
  intro p e R s m args below meth c A C H locs ls hR hD hS hl
  have C0 := C
  obtain ⟨hx, hb, hml, hret, hnm, hown, hts, hlk, hroom, hK, htab, hst, hA⟩ := C
  exact va_lald hx hb hK.1 (hR.one he) 0 4 rfl (aK_ty hK 4 rfl) hin hd (kk p e R s m args below meth c A C0 H locs ls hR hD hS hl)
theorem aw_aald {a n : Nat} {ty : FieldType} {f : Nat → Option Nat} {i : Int32} (j : Nat) (hj : aTy[j]? = some ty) (hty : ty.isReference = true) (he : h a = some (aRefs ty n f)) (hin : vp_in i n) (hd : decode M.2.1 pc = .ok (.aaload, 1)) (kk : AW l G M d mc ms P (pc + 1) (lv) (va_rf (f i.toNatClampNeg) :: rest) (h) (c0) (s0)) : AW l G M d mc ms P (pc) (lv) (.int i :: .ref a :: rest) (h) (c0) (s0) := by
  intro p e R s m args below meth c A C H locs ls hR hD hS hl
  have C0 := C
  obtain ⟨hx, hb, hml, hret, hnm, hown, hts, hlk, hroom, hK, htab, hst, hA⟩ := C
  have hlt : i.toNatClampNeg < n := Nat.not_le.mp fun q => hin (Or.inr q)
  exact W.aald (v := va_rf (f i.toNatClampNeg)) (ty := ty) hx hb (hR a _ he) ((hK.1.2 j _ (aK_ty hK j hj)).1 n (fun j => va_rf (f j))) hty (fun q => by cases q) (by show ¬ (i < 0 ∨ (arrV _ _ _).slots.size ≤ _); rw [arrV_size]; exact hin) (by show (arrV _ _ _).slots[_]? = _; rw [arrV_read _ _ hlt]) rfl rfl hd (kk p e R s m args below meth c A C0 H locs ls hR hD hS hl)
theorem aw_alen {a : Nat} {x : FieldType × vp_A} (j : Nat) (hj : aTy[j]? = some x.1) (he : h a = some (.inl x)) (hd : decode M.2.1 pc = .ok (.arraylength, 1)) (kk : AW l G M d mc ms P (pc + 1) (lv) (.int (Int32.ofNat x.2.1) :: rest) (h) (c0) (s0)) : AW l G M d mc ms P (pc) (lv) (.ref a :: rest) (h) (c0) (s0) := by
  intro p e R s m args below meth c A C H locs ls hR hD hS hl
  have C0 := C
  obtain ⟨hx, hb, hml, hret, hnm, hown, hts, hlk, hroom, hK, htab, hst, hA⟩ := C
  exact va_alen hx hb hK.1 (hR.one he) 0 j rfl (aK_ty hK j hj) rfl hd (kk p e R s m args below meth c A C0 H locs ls hR hD hS hl)
/-- the script: an array that nobody writes -/
theorem aw_sld {i : Int32} (hin : vp_in i G.2.2.2.1) (hd : decode M.2.1 pc = .ok (.iaload, 1)) (kk : AW l G M d mc ms P (pc + 1) (lv) (.int (G.2.2.2.2 i.toNatClampNeg) :: rest) (h) (c0) (s0)) : AW l G M d mc ms P (pc) (lv) (.int i :: .ref G.2.2.1 :: rest) (h) (c0) (s0) := by
  intro p e R s m args below meth c A C H locs ls hR hD hS hl
  have C0 := C
  obtain ⟨hx, hb, hml, hret, hnm, hown, hts, hlk, hroom, hK, htab, hst, hA⟩ := C
  obtain ⟨-, -, -, -, -, -, -, -, -, hT, -⟩ := hK.2.2.2.2.2.2
  obtain ⟨cell, g1, g2, g3, g4, g5, g6, g7⟩ := hT
  have hlt : i.toNatClampNeg < G.2.2.2.1 := Nat.not_le.mp fun q => hin (Or.inr q)
  exact W.iald (v := .int (G.2.2.2.2 i.toNatClampNeg)) hx hb (by rw [hS.2.1 _ (Array.getElem?_eq_some_iff.mp g1).1 g7]; exact g1) g2 g3 (fun q => q.elim (fun q => hin (Or.inl q)) (fun q => absurd (Nat.lt_of_lt_of_le hlt g4) (Nat.not_lt.mpr q))) (g6 _ hlt) rfl rfl hd (kk p e R s m args below meth c A C0 H locs ls hR hD hS hl)
theorem aw_slen (hd : decode M.2.1 pc = .ok (.arraylength, 1)) (kk : AW l G M d mc ms P (pc + 1) (lv) (.int (Int32.ofNat G.2.2.2.1) :: rest) (h) (c0) (s0)) : AW l G M d mc ms P (pc) (lv) (.ref G.2.2.1 :: rest) (h) (c0) (s0) := by
  intro p e R s m args below meth c A C H locs ls hR hD hS hl
  have C0 := C
  obtain ⟨hx, hb, hml, hret, hnm, hown, hts, hlk, hroom, hK, htab, hst, hA⟩ := C
  obtain ⟨-, -, -, -, -, -, -, -, -, hT, -⟩ := hK.2.2.2.2.2.2
  obtain ⟨cell, g1, g2, g3, g4, g5, g6, g7⟩ := hT
  exact W.alen (n := Int32.ofNat G.2.2.2.1) hx hb (by rw [hS.2.1 _ (Array.getElem?_eq_some_iff.mp g1).1 g7]; exact g1) g2 g5 rfl rfl hd (kk p e R s m args below meth c A C0 H locs ls hR hD hS hl)
theorem aw_iast {a n : Nat} {f : Nat → Int32} {i : Int32} {x : Int32} {h' : aH} (he : h a = some (aInts .int n f)) (hin : vp_in i n) (hu : aUp h a (aInts .int n (upd f i.toNatClampNeg x)) = h') (hd : decode M.2.1 pc = .ok (.iastore, 1)) (kk : AW l G M d mc ms P (pc + 1) (lv) (rest) (h') (c0) (s0)) : AW l G M d mc ms P (pc) (lv) (.int x :: .int i :: .ref a :: rest) (h) (c0) (s0) := by
  intro p e R s m args below meth c A C H locs ls hR hD hS hl
  have C0 := C
  obtain ⟨hx, hb, hml, hret, hnm, hown, hts, hlk, hroom, hK, htab, hst, hA⟩ := C
  subst hu
  refine W.iast hx hb (hR a _ he) ((hK.1.2 0 _ (aK_ty hK 0 rfl)).1 n (fun j => .int (f j))) (fun q => by cases q) (by show ¬ (i < 0 ∨ (arrV _ _ _).slots.size ≤ _); rw [arrV_size]; exact hin) rfl rfl hd fun H1 e1 z oq => ?_
  refine kk p e R s m args below meth c A C0 H1 _ ls (hR.set ?_ oq) (hD.set (hD a _ he)) (hS.put z oq (hD a _ he)) hl
  show H1[a]? = some (vp_cell _ _)
  rw [e1]
  show some ((arrV (G.1.2 .int) n (fun j => .int (f j))).setSlot i.toNatClampNeg (.int x)) = some (arrV (G.1.2 .int) n (fun j => .int (upd f i.toNatClampNeg x j)))
  rw [arrV_store]
  congr 2
  funext q
  by_cases hq : q = i.toNatClampNeg
  · subst hq
    simp [updV, upd]
  · simp [updV, upd, hq]
theorem aw_last {a n : Nat} {f : Nat → Int64} {i : Int32} {x : Int64} {h' : aH} (he : h a = some (aLongs n f)) (hin : vp_in i n) (hu : aUp h a (aLongs n (vp_updL f i.toNatClampNeg x)) = h') (hd : decode M.2.1 pc = .ok (.lastore, 1)) (kk : AW l G M d mc ms P (pc + 1) (lv) (rest) (h') (c0) (s0)) : AW l G M d mc ms P (pc) (lv) (.long x :: .int i :: .ref a :: rest) (h) (c0) (s0) := by
  intro p e R s m args below meth c A C H locs ls hR hD hS hl
  have C0 := C
  obtain ⟨hx, hb, hml, hret, hnm, hown, hts, hlk, hroom, hK, htab, hst, hA⟩ := C
  subst hu
  refine W.last hx hb (hR a _ he) ((hK.1.2 4 _ (aK_ty hK 4 rfl)).1 n (fun j => .long (f j))) (fun q => by cases q) (by show ¬ (i < 0 ∨ (arrV _ _ _).slots.size ≤ _); rw [arrV_size]; exact hin) rfl rfl hd fun H1 e1 z oq => ?_
  refine kk p e R s m args below meth c A C0 H1 _ ls (hR.set ?_ oq) (hD.set (hD a _ he)) (hS.put z oq (hD a _ he)) hl
  show H1[a]? = some (vp_cell _ _)
  rw [e1]
  show some ((arrV (G.1.2 .long) n (fun j => .long (f j))).setSlot i.toNatClampNeg (.long x)) = some (arrV (G.1.2 .long) n (fun j => .long (vp_updL f i.toNatClampNeg x j)))
  rw [arrV_store]
  congr 2
  funext q
  by_cases hq : q = i.toNatClampNeg
  · subst hq
    simp [updV, vp_updL]
  · simp [updV, vp_updL, hq]
theorem aw_zast {a n : Nat} {f : Nat → Int32} {i : Int32} {x : Int32} {h' : aH} (he : h a = some (aInts .boolean n f)) (hin : vp_in i n) (hu : aUp h a (aInts .boolean n (upd f i.toNatClampNeg (vp_nar .boolean x))) = h') (hd : decode M.2.1 pc = .ok (.bastore, 1)) (kk : AW l G M d mc ms P (pc + 1) (lv) (rest) (h') (c0) (s0)) : AW l G M d mc ms P (pc) (lv) (.int x :: .int i :: .ref a :: rest) (h) (c0) (s0) := by
  intro p e R s m args below meth c A C H locs ls hR hD hS hl
  have C0 := C
  obtain ⟨hx, hb, hml, hret, hnm, hown, hts, hlk, hroom, hK, htab, hst, hA⟩ := C
  subst hu
  refine W.zast hx hb (hR a _ he) ((hK.1.2 1 _ (aK_ty hK 1 rfl)).1 n (fun j => .int (f j))) (fun q => by cases q) (by show ¬ (i < 0 ∨ (arrV _ _ _).slots.size ≤ _); rw [arrV_size]; exact hin) rfl rfl hd fun H1 e1 z oq => ?_
  refine kk p e R s m args below meth c A C0 H1 _ ls (hR.set ?_ oq) (hD.set (hD a _ he)) (hS.put z oq (hD a _ he)) hl
  show H1[a]? = some (vp_cell _ _)
  rw [e1]
  show some ((arrV (G.1.2 .boolean) n (fun j => .int (f j))).setSlot i.toNatClampNeg (narrow .boolean (.int x))) = some (arrV (G.1.2 .boolean) n (fun j => .int (upd f i.toNatClampNeg (vp_nar .boolean x) j)))
  rw [arrV_store]
  congr 2
  funext q
  by_cases hq : q = i.toNatClampNeg
  · subst hq
    simp [updV, upd, vp_nar, narrow]
  · simp [updV, upd, vp_nar, narrow, hq]
theorem aw_cast {a n : Nat} {f : Nat → Int32} {i : Int32} {x : Int32} {h' : aH} (he : h a = some (aInts .char n f)) (hin : vp_in i n) (hu : aUp h a (aInts .char n (upd f i.toNatClampNeg (vp_nar .char x))) = h') (hd : decode M.2.1 pc = .ok (.castore, 1)) (kk : AW l G M d mc ms P (pc + 1) (lv) (rest) (h') (c0) (s0)) : AW l G M d mc ms P (pc) (lv) (.int x :: .int i :: .ref a :: rest) (h) (c0) (s0) := by
  intro p e R s m args below meth c A C H locs ls hR hD hS hl
  have C0 := C
  obtain ⟨hx, hb, hml, hret, hnm, hown, hts, hlk, hroom, hK, htab, hst, hA⟩ := C
  subst hu
  refine W.cast hx hb (hR a _ he) ((hK.1.2 2 _ (aK_ty hK 2 rfl)).1 n (fun j => .int (f j))) (fun q => by cases q) (by show ¬ (i < 0 ∨ (arrV _ _ _).slots.size ≤ _); rw [arrV_size]; exact hin) rfl rfl hd fun H1 e1 z oq => ?_
  refine kk p e R s m args below meth c A C0 H1 _ ls (hR.set ?_ oq) (hD.set (hD a _ he)) (hS.put z oq (hD a _ he)) hl
  show H1[a]? = some (vp_cell _ _)
  rw [e1]
  show some ((arrV (G.1.2 .char) n (fun j => .int (f j))).setSlot i.toNatClampNeg (narrow .char (.int x))) = some (arrV (G.1.2 .char) n (fun j => .int (upd f i.toNatClampNeg (vp_nar .char x) j)))
  rw [arrV_store]
  congr 2
  funext q
  by_cases hq : q = i.toNatClampNeg
  · subst hq
    simp [updV, upd, vp_nar, narrow]
  · simp [updV, upd, vp_nar, narrow, hq]
theorem aw_bast {a n : Nat} {f : Nat → Int32} {i : Int32} {x : Int32} {h' : aH} (he : h a = some (aInts .byte n f)) (hin : vp_in i n) (hu : aUp h a (aInts .byte n (upd f i.toNatClampNeg (vp_nar .byte x))) = h') (hd : decode M.2.1 pc = .ok (.bastore, 1)) (kk : AW l G M d mc ms P (pc + 1) (lv) (rest) (h') (c0) (s0)) : AW l G M d mc ms P (pc) (lv) (.int x :: .int i :: .ref a :: rest) (h) (c0) (s0) := by
  intro p e R s m args below meth c A C H locs ls hR hD hS hl
  have C0 := C
  obtain ⟨hx, hb, hml, hret, hnm, hown, hts, hlk, hroom, hK, htab, hst, hA⟩ := C
  subst hu
  refine W.bast hx hb (hR a _ he) ((hK.1.2 3 _ (aK_ty hK 3 rfl)).1 n (fun j => .int (f j))) (fun q => by cases q) (by show ¬ (i < 0 ∨ (arrV _ _ _).slots.size ≤ _); rw [arrV_size]; exact hin) rfl rfl hd fun H1 e1 z oq => ?_
  refine kk p e R s m args below meth c A C0 H1 _ ls (hR.set ?_ oq) (hD.set (hD a _ he)) (hS.put z oq (hD a _ he)) hl
  show H1[a]? = some (vp_cell _ _)
  rw [e1]
  show some ((arrV (G.1.2 .byte) n (fun j => .int (f j))).setSlot i.toNatClampNeg (narrow .byte (.int x))) = some (arrV (G.1.2 .byte) n (fun j => .int (upd f i.toNatClampNeg (vp_nar .byte x) j)))
  rw [arrV_store]
  congr 2
  funext q
  by_cases hq : q = i.toNatClampNeg
  · subst hq
    simp [updV, upd, vp_nar, narrow]
  · simp [updV, upd, vp_nar, narrow, hq]
theorem aw_newa {atype : ArrayType} {ty : FieldType} (hty : newarray.typeOf atype = ty) (j : Nat) (hj : aTy[j]? = some ty) (hw : Cond.arrayClass (newarray.typeOf atype) ∈ lw_all) {n : Int32} {N : Nat} {a0 : vp_A} (ha : ∀ cA : ClassId, vp_cell cA a0 = arrV cA N (fun _ => defaultValue ty)) (hn : ¬ n < 0) (hN : n.toNatClampNeg = N) (hbytes : N * componentBytes ty ≤ 536870912) (hfind : ∀ (s : State) (cA : ClassId), va_RA s cA ty → s.vm.findClass ("[" ++ ty.toString) = some cA) (hc : c0 + 1 ≤ mc) (hs : s0 + N ≤ ms) (hd : decode M.2.1 pc = .ok (.newarray atype, 2))
    (kk : ∀ q : Nat, h q = none → AW l G M d mc ms P (pc + 2) (lv) (.ref q :: rest) (aUp h q (.inl (ty, a0))) (c0 + 1) (s0 + N)) : AW l G M d mc ms P (pc) (lv) (.int n :: rest) (h) (c0) (s0) := by
  intro p e R s m args below meth c A C H locs ls hR hD hS hl
  have C0 := C
  obtain ⟨hx, hb, hml, hret, hnm, hown, hts, hlk, hroom, hK, htab, hst, hA⟩ := C
  subst hty
  refine va_newaK hx hb (hts _ hw) rfl hd rfl hn hN hbytes (Nat.le_trans hc hroom.2.2.1) (Nat.le_trans hs hroom.2.2.2) rfl fun H1 cA e1 z1 o1 hAr hNm => ?_
  have hcA : cA = G.1.2 (newarray.typeOf atype) := Option.some.inj (hNm.symm.trans (hfind s _ (hK.1.2 j _ (aK_ty hK j hj)).2))
  subst hcA
  refine kk H.size hR.new p e R s m args below meth c A C0 H1 locs ls (hR.push ?_ o1) (hD.set (hA _ hS.1)) ⟨Nat.le_trans hS.1 (by omega), fun x h1 h2 => (o1 x (Nat.lt_of_lt_of_le h1 hS.1)).trans (hS.2.1 x h1 h2), hS.2.2⟩ hl
  show H1[H.size]? = some (vp_cell _ _)
  rw [ha]
  exact e1
theorem aw_new {Cn : String} {T : u_T} {ty0 : Nat → FieldType} {N ci index : Nat} {fs : List Value} (hc : aCl[ci]? = some (Cn, T, N)) (hin : aIn Cn T N) (hty : ∀ k, k < N → parseFieldDescriptor (T k).2.2.1 = some (ty0 k)) (hw1 : Cond.classLink M.1.cls index Cn ∈ lw_all) (hw2 : Cond.instantiable Cn N ∈ lw_all) (hw3 : Cond.initialized Cn ∈ lw_all) (hfs : ∀ j, j < N → defaultValue (ty0 j) = vp_V fs j) (hc1 : c0 + 1 ≤ mc) (hs1 : s0 + N ≤ ms) (hd : decode M.2.1 pc = .ok (.new index, 3))
    (kk : ∀ q : Nat, h q = none → AW l G M d mc ms P (pc + 3) (lv) (.ref q :: rest) (aUp h q (.inr (ci, fs))) (c0 + 1) (s0 + N)) : AW l G M d mc ms P (pc) (lv) (rest) (h) (c0) (s0) := by
  intro p e R s m args below meth c A C H locs ls hR hD hS hl
  have C0 := C
  obtain ⟨hx, hb, hml, hret, hnm, hown, hts, hlk, hroom, hK, htab, hst, hA⟩ := C
  have hKn := hK.1.1 ci _ hc
  refine W.newcK hx hb hown (hts _ hw1) (hts _ hw2) (hts _ hw3) rfl hd (Nat.le_trans hc1 hroom.2.2.1) (Nat.le_trans hs1 hroom.2.2.2) hKn.2.1 rfl fun H1 kC hkC e1 z1 o1 => ?_
  exact kk H.size hR.new p e R s m args below meth c A C0 H1 locs ls (hR.push ⟨_, hc, (u_born ty0 hts hin hKn hkC e1 hty).to hfs⟩ o1) (hD.set (hA _ hS.1)) ⟨Nat.le_trans hS.1 (by omega), fun x h1 h2 => (o1 x (Nat.lt_of_lt_of_le h1 hS.1)).trans (hS.2.1 x h1 h2), hS.2.2⟩ hl
theorem aw_objInit {index : Nat} {a : Nat} (hw1 : Cond.methodLink M.1.cls index Lib.objectInit ∈ lw_all) (hw2 : Cond.instanceMethod Lib.objectInit ∈ lw_all) (hw3 : Cond.code Lib.objectInit ⟨#[0xb1]⟩ 1 none ∈ lw_all) (hd1 : 1 ≤ d) (hr : (rest.map fun v => v.category).sum ≤ 8) (hd : decode M.2.1 pc = .ok (.invokespecial index, 3)) (kk : AW l G M d mc ms P (pc + 3) (lv) (rest) (h) (c0) (s0)) : AW l G M d mc ms P (pc) (lv) (.ref a :: rest) (h) (c0) (s0) := by
  intro p e R s m args below meth c A C H locs ls hR hD hS hl
  have C0 := C
  obtain ⟨hx, hb, hml, hret, hnm, hown, hts, hlk, hroom, hK, htab, hst, hA⟩ := C
  exact W.objInit hx hb hown (hts _ hw1) (hts _ hw2) (hts _ hw3) rfl (by rw [hml]; exact hl.1) rfl hd (Nat.le_trans hd1 hroom.1) (by have h9 := lv_room (m := m) (pc := pc) (ls := ls) (rest := .ref a :: rest) hr; have h8 := hroom.2.1; omega) (kk p e R s m args below meth c A C0 H locs ls hR hD hS hl)
end AWH
section AWC
variable {l : Launch} {G : aG} {M M2 : aM} {d mc ms d2 mc2 ms2 : Nat} {P P2 : aR → aH → Prop} {pc : Nat} {lv : List (Nat × Value)} {st rest As : List Value} {h : aH} {c0 s0 index b : Nat} {ws : List Cond}
theorem aC_blind {as : List Value} {sz : Nat} : FrameBlind (va_Pc as (fun U => U.heap.size = sz ∧ aRel G h U.heap ∧ aKX G (aOf h sz) U U.heap)) := by
  intro a U g mk q
  obtain ⟨q0, q1, q2, q3⟩ := q
  exact ⟨q0, q1, q2, aKX.go (H1 := U.heap) (U := U.calling g mk a) q3 (State.WarmedH.refl U) (fun _ _ _ => rfl) (fun _ z => z)⟩
theorem aC_pre {as : List Value} {s : State} {H : Heap} {locs : List Loc} {A : Nat → Prop} (hR : aRel G h H) (hD : aDom h A) (hS : va_S A s.heap H locs) (hA : ∀ q, s.heap.size ≤ q → A q) (hK : aKX G A s s.heap) : ∀ U : State, U.heap = H → s.WarmedH U.vm → va_Pc as (fun U => U.heap.size = H.size ∧ aRel G h U.heap ∧ aKX G (aOf h H.size) U U.heap) as.toArray U := by
  intro U hU hW
  refine ⟨rfl, by rw [hU], by rw [hU]; exact hR, ?_⟩
  rw [hU]
  refine aKX.go hK hW (fun a h1 h2 => hS.2.1 a h1 h2) (fun q hq => ?_)
  rcases hq with ⟨x, hq⟩ | hq
  · exact hD q x hq
  · exact hA q (Nat.le_trans hS.1 hq)
/-- behind a call -/
theorem aw_back {p : Program} {e : Env} {R : Room} {s : State} {m : MethodId} {args as : Array Value} {below : List Frame} {meth : Method} {c : Code} {A : Nat → Prop} {H : Heap} {locs : List Loc} {ls : Array Slot} (len : Nat)
    (C : aCtx l G M d mc ms A p R s m args meth c) (hD : aDom h A) (hS : va_S A s.heap H locs) (hl : lv_has ls M.2.2.1 lv)
    (hr : ∀ T : State, T.heap = H → Stand p l e R s m args below meth c T locs c0 s0 →
      (∃ (v : Option Value) (st₀ t T' : State) (L : List Loc), st₀.heap = H ∧ Stand p l e R s m args below meth c T' (locs ++ L) (c0 + mc2) (s0 + ms2) ∧ (∀ q ∈ L, aOf h H.size q.base) ∧ T'.heap = t.heap ∧ T'.vm = t.vm ∧ aQ G P2 (aOf h H.size) as st₀ (.returned v) t ∧
        Goes p e below T (F0 m pc ls st) T' { (F0 m pc ls st) with pc := pc + len, stack := v.toList ++ rest }) ∨
      (∃ (q : Addr) (st₀ t T' : State) (L : List Loc) (E : String) (ce : Cell), st₀.heap = H ∧ Stand p l e R s m args below meth c T' (locs ++ L) (c0 + mc2) (s0 + ms2) ∧ (∀ z ∈ L, aOf h H.size z.base) ∧ T'.heap = t.heap ∧ T'.vm = t.vm ∧ aX G P2 (aOf h H.size) E st₀ t ∧ t.heap[q]? = some ce ∧ ce.vm = .none ∧ s.vm.findClass E = some ce.cls ∧
        Steps p.tables e below (T.setTop (F0 m pc ls st)) ((T'.setTop { (F0 m pc ls st) with stack := rest }).pushFrame (.throwing q))))
    (kk : ∀ (v : Option Value) (h' : aH), P2 (.inl v) h' → AW l G M d mc ms P (pc + len) lv (v.toList ++ rest) h' (c0 + mc2) (s0 + ms2))
    (kx : ∀ (E : String) (h' : aH), P2 (.inr E) h' → AX l G M d mc ms P pc lv h' E (c0 + mc2) (s0 + ms2)) :
    W p l e R s m args below meth c H locs c0 s0 (vx_MQ below (aQ G P A) (aX G P A) args s mc ms A) (F0 m pc ls st) := by
  have C0 := C
  obtain ⟨hx, hb, hml, hret, hnm, hown, hts, hlk, hroom, hK, htab, hst, hA⟩ := C
  have hin : ∀ q, aOf h H.size q → A q := by
    intro q hq
    rcases hq with ⟨x, hq⟩ | hq
    · exact hD q x hq
    · exact hA q (Nat.le_trans hS.1 hq)
  intro T hT X
  rcases hr T hT X with ⟨v, st₀, t, T', L, h0, X', hL, e1, e2, ⟨⟨v', h', hv, hp, hR', hD'⟩, hF⟩, stp⟩ | ⟨q, st₀, t, T', L, E, ce, h0, X', hL, e1, e2, ⟨⟨h', hp, hR', hD'⟩, hF⟩, hce, hcv, hcl, stp⟩
  · cases hv
    obtain ⟨k1, k2, k3⟩ := vx_keep h0 e1 hS (fun q _ z => hin q z) hin hL hF
    obtain ⟨t2, a1, b1⟩ := kk v h' hp p e R s m args below meth c A C0 T'.heap (locs ++ L) ls (by rw [e1]; exact hR') (fun a x z => hin a (hD' a x z)) k3 hl T' rfl X'
    exact ⟨t2, stp t2 a1, b1⟩
  · obtain ⟨k1, k2, k3⟩ := vx_keep h0 e1 hS (fun q _ z => hin q z) hin hL hF
    obtain ⟨t2, a1, b1⟩ := kx E h' hp p e R s m args below meth c A C0 T'.heap (locs ++ L) ls rest q ce (by rw [e1]; exact hR') (fun a x z => hin a (hD' a x z)) k3 hl (by rw [e1]; exact hce) hcv hcl T' rfl X'
    exact ⟨t2, stp.trans a1, b1⟩
abbrev aNoMH (y : MethodName) (n : Nat) : Prop := y.cls ≠ "java/lang/invoke/MethodHandle" ∧ y.cls ≠ "java/lang/invoke/VarHandle" ∧ (parseMethodDescriptor y.desc).map (fun d => d.parameters.length) = some n
theorem aw_callV (hM : aC l G M2 (ws_ M2.1 M2.2.1 M2.2.2.1 M2.2.2.2.1) d2 mc2 ms2 (.ref b :: As) h P2) {Cn : String} {T : u_T} {N ci : Nat} {fs : List Value} (he : h b = some (.inr (ci, fs))) (hcl : aCl[ci]? = some (Cn, T, N)) (hy : M2.1.cls = Cn) (hn : aNoMH M2.1 As.length) (q1 : Cond.methodLink M.1.cls index M2.1 ∈ lw_all) (q2 : Cond.instanceMethod M2.1 ∈ lw_all) (q3 : Cond.selects Cn M2.1 M2.1 ∈ lw_all) (q4 : Cond.initialized Cn ∈ lw_all) (q5 : Cond.code M2.1 M2.2.1 M2.2.2.1 M2.2.2.2.1 ∈ lw_all) (hd : decode M.2.1 pc = .ok (.invokevirtual index, 3)) (hstk : st = As.reverse ++ .ref b :: rest) (hdd : d2 + 1 ≤ d) (hm : M2.2.2.1 ≤ 40) (hrm : (rest.map fun v => v.category).sum ≤ 8) (hc : c0 + mc2 ≤ mc) (hs : s0 + ms2 ≤ ms)
    (kk : ∀ (v : Option Value) (h' : aH), P2 (.inl v) h' → AW l G M d mc ms P (pc + 3) lv (v.toList ++ rest) h' (c0 + mc2) (s0 + ms2))
    (kx : ∀ (E : String) (h' : aH), P2 (.inr E) h' → AX l G M d mc ms P pc lv h' E (c0 + mc2) (s0 + ms2)) : AW l G M d mc ms P pc lv st h c0 s0 := by
  intro p e R s m args below meth c A C H locs ls hR hD hS hl
  have C0 := C
  obtain ⟨hx, hb, hml, hret, hnm, hown, hts, hlk, hroom, hK, htab, hst, hA⟩ := C
  exact aw_back 3 C0 hD hS hl (vx_runV ⟨hx, hb, hml, hown, hts⟩ (hM H.size) (cwV As.length hts (lw_V q1 q2 q3 q4 q5) rfl rfl rfl ⟨hy, hn⟩ ⟨Nat.le_trans hdd hroom.1, by have h8 := hroom.2.1; show 8 + (M2.2.2.1 + 11) + 64 * d2 ≤ R.locals; omega⟩) ⟨aC_blind, (va_recv (q0 := 0) (fs := fs) hK.1 (hR.one he) hcl rfl), aC_pre hR hD hS hA hK⟩ rfl rfl hl.1 hstk (lv_room hrm) hd ⟨Nat.le_trans hc hroom.2.2.1, Nat.le_trans hs hroom.2.2.2⟩) kk kx
theorem aw_callS (hM : aC l G M2 (ws_ M2.1 M2.2.1 M2.2.2.1 M2.2.2.2.1) d2 mc2 ms2 As h P2) (hn : aNoMH M2.1 As.length) (q1 : Cond.methodLink M.1.cls index M2.1 ∈ lw_all) (q2 : Cond.static M2.1 ∈ lw_all) (q3 : Cond.initialized M2.1.cls ∈ lw_all) (q4 : Cond.code M2.1 M2.2.1 M2.2.2.1 M2.2.2.2.1 ∈ lw_all) (hd : decode M.2.1 pc = .ok (.invokestatic index, 3)) (hstk : st = As.reverse ++ rest) (hdd : d2 + 1 ≤ d) (hm : M2.2.2.1 ≤ 40) (hrm : (rest.map fun v => v.category).sum ≤ 8) (hc : c0 + mc2 ≤ mc) (hs : s0 + ms2 ≤ ms)
    (kk : ∀ (v : Option Value) (h' : aH), P2 (.inl v) h' → AW l G M d mc ms P (pc + 3) lv (v.toList ++ rest) h' (c0 + mc2) (s0 + ms2))
    (kx : ∀ (E : String) (h' : aH), P2 (.inr E) h' → AX l G M d mc ms P pc lv h' E (c0 + mc2) (s0 + ms2)) : AW l G M d mc ms P pc lv st h c0 s0 := by
  intro p e R s m args below meth c A C H locs ls hR hD hS hl
  have C0 := C
  obtain ⟨hx, hb, hml, hret, hnm, hown, hts, hlk, hroom, hK, htab, hst, hA⟩ := C
  exact aw_back 3 C0 hD hS hl (vx_runS ⟨hx, hb, hml, hown, hts⟩ (hM H.size) (va_cwS As.length hts (lw_S q1 q2 q3 q4) rfl rfl rfl hn ⟨Nat.le_trans hdd hroom.1, by have h8 := hroom.2.1; show 8 + (M2.2.2.1 + 11) + 64 * d2 ≤ R.locals; omega⟩) ⟨aC_blind, aC_pre hR hD hS hA hK⟩ rfl rfl hl.1 hstk (lv_room hrm) hd ⟨Nat.le_trans hc hroom.2.2.1, Nat.le_trans hs hroom.2.2.2⟩) kk kx
theorem aw_callI (hret2 : M2.2.2.2.1 = none) (hM : aC l G M2 (ws_ M2.1 M2.2.1 M2.2.2.1 M2.2.2.2.1) d2 mc2 ms2 (.ref b :: As) h P2) (hn : aNoMH M2.1 As.length) (hi : M2.1.name = "<init>") (q1 : Cond.methodLink M.1.cls index M2.1 ∈ lw_all) (q2 : Cond.instanceMethod M2.1 ∈ lw_all) (q3 : Cond.initialized M2.1.cls ∈ lw_all) (q4 : Cond.code M2.1 M2.2.1 M2.2.2.1 M2.2.2.2.1 ∈ lw_all) (hd : decode M.2.1 pc = .ok (.invokespecial index, 3)) (hstk : st = As.reverse ++ .ref b :: rest) (hdd : d2 + 1 ≤ d) (hm : M2.2.2.1 ≤ 40) (hrm : (rest.map fun v => v.category).sum ≤ 8) (hc : c0 + mc2 ≤ mc) (hs : s0 + ms2 ≤ ms)
    (kk : ∀ (v : Option Value) (h' : aH), P2 (.inl v) h' → AW l G M d mc ms P (pc + 3) lv (v.toList ++ rest) h' (c0 + mc2) (s0 + ms2))
    (kx : ∀ (E : String) (h' : aH), P2 (.inr E) h' → AX l G M d mc ms P pc lv h' E (c0 + mc2) (s0 + ms2)) : AW l G M d mc ms P pc lv st h c0 s0 := by
  intro p e R s m args below meth c A C H locs ls hR hD hS hl
  have C0 := C
  obtain ⟨hx, hb, hml, hret, hnm, hown, hts, hlk, hroom, hK, htab, hst, hA⟩ := C
  rw [hret2] at hM q4
  exact aw_back 3 C0 hD hS hl (vx_runI ⟨hx, hb, hml, hown, hts⟩ (hM H.size) (cwI As.length hts (lw_meth q4) rfl rfl rfl (hts _ q3) (hts _ q1) (hts _ q2) hi hn ⟨Nat.le_trans hdd hroom.1, by have h8 := hroom.2.1; show 8 + (M2.2.2.1 + 11) + 64 * d2 ≤ R.locals; omega⟩) ⟨aC_blind, aC_pre hR hD hS hA hK⟩ rfl rfl hl.1 hstk (lv_room hrm) hd ⟨Nat.le_trans hc hroom.2.2.1, Nat.le_trans hs hroom.2.2.2⟩) kk kx
theorem aw_callF {x : MethodName} {count : Nat} (hM : aC l G M2 (ws_ M2.1 M2.2.1 M2.2.2.1 M2.2.2.2.1) d2 mc2 ms2 (.ref b :: As) h P2) {Cn : String} {T : u_T} {N ci : Nat} {fs : List Value} (he : h b = some (.inr (ci, fs))) (hcl : aCl[ci]? = some (Cn, T, N)) (hn : aNoMH x As.length) (hif : (Cn, x, M2.1) ∈ aIf) (q1 : Cond.methodLink M.1.cls index x ∈ lw_all) (q2 : Cond.instanceMethod M2.1 ∈ lw_all) (q3 : Cond.selects Cn x M2.1 ∈ lw_all) (q4 : Cond.initialized M2.1.cls ∈ lw_all) (q5 : Cond.code M2.1 M2.2.1 M2.2.2.1 M2.2.2.2.1 ∈ lw_all) (hd : decode M.2.1 pc = .ok (.invokeinterface index count, 5)) (hstk : st = As.reverse ++ .ref b :: rest) (hdd : d2 + 1 ≤ d) (hm : M2.2.2.1 ≤ 40) (hrm : (rest.map fun v => v.category).sum ≤ 8) (hc : c0 + mc2 ≤ mc) (hs : s0 + ms2 ≤ ms)
    (kk : ∀ (v : Option Value) (h' : aH), P2 (.inl v) h' → AW l G M d mc ms P (pc + 5) lv (v.toList ++ rest) h' (c0 + mc2) (s0 + ms2))
    (kx : ∀ (E : String) (h' : aH), P2 (.inr E) h' → AX l G M d mc ms P pc lv h' E (c0 + mc2) (s0 + ms2)) : AW l G M d mc ms P pc lv st h c0 s0 := by
  intro p e R s m args below meth c A C H locs ls hR hD hS hl
  have C0 := C
  obtain ⟨hx, hb, hml, hret, hnm, hown, hts, hlk, hroom, hK, htab, hst, hA⟩ := C
  have hG : GoodIn lw_all (va_wsF M.1.cls index Cn x M2.1 (ws_ M2.1 M2.2.1 M2.2.2.1 M2.2.2.2.1)) := lw_app (fun w hw => by
    simp only [List.mem_cons, List.not_mem_nil, or_false] at hw
    rcases hw with e9 | e9 | e9 | e9
    · rw [e9]; exact q1
    · rw [e9]; exact q3
    · rw [e9]; exact q2
    · rw [e9]; exact q4) (lw_meth q5)
  exact aw_back 5 C0 hD hS hl (vx_runF (hK.1.1 ci _ hcl).2 ⟨hx, hb, hml, hown, hts⟩ (hM H.size) (va_cwF As.length hts hG rfl rfl rfl (hK.2.2.1 _ hif) hn ⟨Nat.le_trans hdd hroom.1, by have h8 := hroom.2.1; show 8 + (M2.2.2.1 + 11) + 64 * d2 ≤ R.locals; omega⟩) ⟨aC_blind, (va_recv (q0 := 0) (fs := fs) hK.1 (hR.one he) hcl rfl), aC_pre hR hD hS hA hK⟩ rfl rfl hl.1 hstk (lv_room hrm) hd ⟨Nat.le_trans hc hroom.2.2.1, Nat.le_trans hs hroom.2.2.2⟩) kk kx
/-- a post: one answer, one heap -/
def aP1 (v : Option Value) (h' : aH) : aR → aH → Prop := fun r h => r = .inl v ∧ h = h'
theorem aP1_k {v : Option Value} {h' : aH} {len c1 s1 : Nat} (k : AW l G M d mc ms P (pc + len) lv (v.toList ++ rest) h' c1 s1) : ∀ (w : Option Value) (h2 : aH), aP1 v h' (.inl w) h2 → AW l G M d mc ms P (pc + len) lv (w.toList ++ rest) h2 c1 s1 := by
  intro w h2 hp
  obtain ⟨h3, rfl⟩ := hp
  cases h3
  exact k
theorem aP1_x {v : Option Value} {h' : aH} {c1 s1 : Nat} : ∀ (E : String) (h2 : aH), aP1 v h' (.inr E) h2 → AX l G M d mc ms P pc lv h2 E c1 s1 := by
  intro E h2 hp
  exact absurd hp.1 (by simp)
end AWC
