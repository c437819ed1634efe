/-! texts: characters added, commands run
-/
set_option maxRecDepth 100000
def U6 (x : Int64) : Nat := x.toUInt64.toNat
theorem U_bv (x : Int64) : x.toBitVec.toNat = U6 x := Int64.toNat_toBitVec x
theorem U_bit (x : Int64) (i : Nat) : x.toBitVec.getLsbD i = (U6 x).testBit i := by rw [← U_bv]; rfl
theorem bytM (X j i : Nat) : (X / 256 ^ j % 256).testBit i = (decide (i < 8) && X.testBit (8 * j + i)) := by
  rw [show (256 : Nat) = 2 ^ 8 from rfl, ← Nat.pow_mul, ← Nat.shiftRight_eq_div_pow, Nat.testBit_mod_two_pow, Nat.testBit_shiftRight]
theorem low_byte {y : Int64} {X j : Nat} (h : ∀ i, i < 8 → y.toBitVec.getLsbD i = X.testBit (8 * j + i)) : (y &&& 255).toInt32 = i3 (X / 256 ^ j % 256) := by
  apply Int32.toBitVec_inj.mp
  rw [Int64.toBitVec_toInt32, Int64.toBitVec_and]
  apply BitVec.eq_of_getLsbD_eq
  intro i hi
  have e1 : (i3 (X / 256 ^ j % 256)).toBitVec = BitVec.ofNat 32 (X / 256 ^ j % 256) := rfl
  have e2 : (255 : Int64).toBitVec = BitVec.ofNat 64 (2 ^ 8 - 1) := rfl
  rw [e1, BitVec.getLsbD_ofNat, bytM, BitVec.getLsbD_signExtend, if_pos (by omega : i < 64), BitVec.getLsbD_and, e2, BitVec.getLsbD_ofNat, Nat.testBit_two_pow_sub_one]
  by_cases q : i < 8
  · rw [h i q]; simp [q, hi]; intro _; omega
  · simp [q]
theorem sh_u {x : Int64} {k : Nat} (hk : k < 8) : ((x.toUInt64 >>> (((8 : Int32) * i3 k).toInt64.toUInt64 &&& Int64.toUInt64 63)).toInt64).toBitVec = x.toBitVec >>> (8 * k) := by
  have e : ∀ k : Fin 8, (((8 : Int32) * i3 k.1).toInt64.toUInt64 &&& Int64.toUInt64 63).toBitVec % 64 = BitVec.ofNat 64 (8 * k.1) := by decide +kernel
  have e1 : ((x.toUInt64 >>> (((8 : Int32) * i3 k).toInt64.toUInt64 &&& Int64.toUInt64 63)).toInt64).toBitVec = x.toBitVec >>> ((((8 : Int32) * i3 k).toInt64.toUInt64 &&& Int64.toUInt64 63).toBitVec % 64) := UInt64.toBitVec_shiftRight _ _
  have e2 := e ⟨k, hk⟩
  simp only at e2
  rw [e1, e2]
  apply BitVec.eq_of_toNat_eq
  rw [BitVec.ushiftRight_eq', BitVec.toNat_ofNat, Nat.mod_eq_of_lt (by omega)]
theorem sh_s {x : Int64} {k : Nat} (hk : k < 8) : (x >>> (((8 : Int32) * i3 k).toInt64 &&& 63)).toBitVec = x.toBitVec.sshiftRight (8 * k) := by
  have e : ∀ k : Fin 8, (((8 : Int32) * i3 k.1).toInt64 &&& 63).toBitVec.smod 64 = BitVec.ofNat 64 (8 * k.1) := by decide +kernel
  have e2 := e ⟨k, hk⟩
  simp only at e2
  rw [Int64.toBitVec_shiftRight, e2]
  unfold BitVec.sshiftRight'
  rw [BitVec.toNat_ofNat, Nat.mod_eq_of_lt (by omega)]
theorem byte_u {x : Int64} {k : Nat} (hk : k < 8) : (((x.toUInt64 >>> (((8 : Int32) * i3 k).toInt64.toUInt64 &&& Int64.toUInt64 63)).toInt64) &&& (255 : Int64)).toInt32 = i3 (U6 x / 256 ^ k % 256) := low_byte fun i hi => by
  rw [sh_u hk, BitVec.getLsbD_ushiftRight, U_bit]
theorem byte_s {x : Int64} {k : Nat} (hk : k < 8) : ((x >>> (((8 : Int32) * i3 k).toInt64 &&& 63)) &&& (255 : Int64)).toInt32 = i3 (U6 x / 256 ^ k % 256) := low_byte fun i hi => by
  rw [sh_s hk, BitVec.getLsbD_sshiftRight, if_pos (by omega), U_bit, decide_eq_false (by omega)]; rfl
theorem byte_0 {x : Int64} : (x &&& (255 : Int64)).toInt32 = i3 (U6 x % 256) := by
  have := low_byte (y := x) (X := U6 x) (j := 0) (fun i hi => by rw [U_bit]; congr 1; omega)
  rw [this, Nat.pow_zero, Nat.div_one]
def sh8 (x : Int64) : Int64 := (x.toUInt64 >>> ((8 : Int32).toInt64.toUInt64 &&& Int64.toUInt64 63)).toInt64
theorem U_sh8 {x : Int64} : U6 (sh8 x) = U6 x / 256 := by
  have e1 : (sh8 x).toBitVec = x.toBitVec >>> (((8 : Int32).toInt64.toUInt64 &&& Int64.toUInt64 63).toBitVec % 64) := UInt64.toBitVec_shiftRight _ _
  have e2 : ((8 : Int32).toInt64.toUInt64 &&& Int64.toUInt64 63).toBitVec % 64 = BitVec.ofNat 64 8 := by decide +kernel
  rw [← U_bv, e1, e2, BitVec.ushiftRight_eq', BitVec.toNat_ushiftRight, BitVec.toNat_ofNat, Nat.mod_eq_of_lt (by decide), U_bv, Nat.shiftRight_eq_div_pow]
theorem U_and {x : Int64} : (x &&& (255 : Int64) = 0) = (U6 x % 256 = 0) := by
  have h : ∀ i, (x &&& (255 : Int64)).toBitVec.getLsbD i = (U6 x % 256).testBit i := by
    intro i
    have e2 : (255 : Int64).toBitVec = BitVec.ofNat 64 (2 ^ 8 - 1) := rfl
    rw [Int64.toBitVec_and, BitVec.getLsbD_and, U_bit, e2, BitVec.getLsbD_ofNat, Nat.testBit_two_pow_sub_one, show (256 : Nat) = 2 ^ 8 from rfl, Nat.testBit_mod_two_pow]
    by_cases q : i < 8
    · simp [q]; intro _; omega
    · simp [q]
  rw [eq_iff_iff]
  constructor
  · intro z
    apply Nat.eq_of_testBit_eq
    intro i
    rw [← h, z, Nat.zero_testBit]
    show (0#64).getLsbD i = false
    simp
  · intro z
    apply Int64.toBitVec_inj.mp
    apply BitVec.eq_of_getLsbD_eq
    intro i _
    rw [h, z, Nat.zero_testBit]
    show false = (0#64).getLsbD i
    simp
theorem U_0 {x : Int64} : (x = 0) = (U6 x = 0) := by
  rw [eq_iff_iff]
  constructor
  · rintro rfl; rfl
  · intro z
    apply Int64.toBitVec_inj.mp
    apply BitVec.eq_of_toNat_eq
    rw [U_bv, z]; rfl

theorem cmp0 {x y : Int64} : (lg_cmp x y = 0) = (x = y) := by
  unfold lg_cmp
  by_cases h : x > y
  · rw [if_pos h, eq_iff_iff]
    exact ⟨fun z => absurd z (by decide), fun z => absurd (by rw [z] at h; exact h) (Int64.lt_irrefl)⟩
  · rw [if_neg h]
    by_cases q : x = y
    · rw [if_pos q]; simp [q]
    · rw [if_neg q]; simp [q]
theorem chr2 : ∀ c : Fin 128, ((i3 c.1).toUInt32 % 65536).toInt32 = i3 c.1 := by decide +kernel
def byt (X j : Nat) : Nat := X / 256 ^ j % 256
def ledN (X : Nat) : Nat → Nat → Nat
  | 0, j => j
  | f + 1, j => if byt X j = 0 then j else ledN X f (j + 1)
def lead (X : Nat) : Nat := ledN X 8 0
def okBy (X k : Nat) : Bool := (List.range k).all fun j => decide (33 ≤ byt X j ∧ byt X j ≤ 126)
def chs (X k r : Nat) : List Nat := (List.range r).map fun i => byt X (k - 1 - i)
def appendF (S : ST) (x : Int64) : aR × ST := if lead (U6 x) ≠ 0 ∧ okBy (U6 x) (lead (U6 x)) = true ∧ U6 x / 256 ^ lead (U6 x) = 0 then (if S.2.2.2.length + lead (U6 x) ≤ 80 then (vi (S.2.2.2.length + lead (U6 x)), (S.1, S.2.1, S.2.2.1, S.2.2.2 ++ chs (U6 x) (lead (U6 x)) (lead (U6 x)))) else (.inr exS, S)) else (.inr exA, S)
def clearTF (S : ST) : aR × ST := (vi S.2.2.2.length, (S.1, S.2.1, S.2.2.1, []))
def okX (r : aR) : Bool := match r with
  | .inl _ => true
  | .inr _ => false
def runC : List cmT → ST → Nat → Nat × ST
  | [], S, k => (k, S)
  | c :: cs, S, k => if okX (execF S c).1 then runC cs (execF S c).2 (k + 1) else (k, S)
def runF (S : ST) : aR × ST := match pAll S.2.2.2 with
  | (none, _) => (.inr exS, S)
  | (some cs, _) => (vi (runC cs (S.1, recL S.2.1 S.1, S.2.2.1, []) 0).1, (runC cs (S.1, recL S.2.1 S.1, S.2.2.1, []) 0).2)
theorem okBy_succ {X k : Nat} : okBy X (k + 1) = (okBy X k && decide (33 ≤ byt X k ∧ byt X k ≤ 126)) := by
  unfold okBy
  rw [List.range_succ, List.all_append]; simp
theorem okBy_get {X k j : Nat} (h : okBy X k = true) (hj : j < k) : 33 ≤ byt X j ∧ byt X j ≤ 126 := of_decide_eq_true (List.all_eq_true.mp h j (List.mem_range.mpr hj))
theorem ledN_ge {X : Nat} : ∀ f j, j ≤ ledN X f j ∧ ledN X f j ≤ j + f := by
  intro f
  induction f with
  | zero => intro j; exact ⟨Nat.le_refl _, Nat.le_refl _⟩
  | succ f ih =>
    intro j
    rw [ledN]
    split
    · exact ⟨Nat.le_refl _, by omega⟩
    · have := ih (j + 1); omega
theorem okBy_le {X k j : Nat} (h : okBy X k = true) (hj : j ≤ k) : okBy X j = true := by
  unfold okBy
  exact List.all_eq_true.mpr fun i hi => List.all_eq_true.mp h i (List.mem_range.mpr (by have := List.mem_range.mp hi; omega))
theorem chs_succ {X k r : Nat} : chs X k (r + 1) = chs X k r ++ [byt X (k - 1 - r)] := by
  unfold chs
  rw [List.range_succ, List.map_append]; rfl
theorem chs_len {X k r : Nat} : (chs X k r).length = r := by unfold chs; simp
theorem pNum_99 {t : List Nat} {q k r : Nat} (h : pNum t q = (some k, r)) : k < 100 := by
  unfold pNum at h
  split at h
  · rename_i h1
    have h2 := of_decide_eq_true h1
    split at h
    · rename_i h3
      have h4 := of_decide_eq_true h3.2
      injection h with a b
      injection a with a
      omega
    · injection h with a b
      injection a with a
      omega
  · injection h with a b; cases a
theorem pLet_3 {t : List Nat} {q v : Nat} (h : (pLet t q).1 = some v) : v ≤ 3 := by
  unfold pLet at h
  split at h
  · rename_i h1; injection h with a; omega
  · cases h
theorem pThing_5 {t : List Nat} {q v : Nat} (h : (pThing t q).1 = some v) : v ≤ 5 := by
  unfold pThing at h
  split at h
  · injection h with a; omega
  · have := pLet_3 h; omega
theorem pCmd_ok {t : List Nat} {q r : Nat} {c : cmT} (h : pCmd t q = (some c, r)) : okc c := by
  unfold pCmd at h
  cases hN : pNum t q with
  | mk o q1 =>
    rw [hN] at h
    cases o with
    | none => injection h with a b; cases a
    | some k =>
      have hk := pNum_99 hN
      have h : pArg t k q1 = (some c, r) := h
      unfold pArg at h
      split at h
      · unfold mkC at h
        injection h with a b
        obtain ⟨v, hv, rfl⟩ := Option.map_eq_some_iff.mp a
        have := pLet_3 hv
        exact ⟨Or.inr (Or.inr (Or.inl rfl)), hk, by show v ≤ 5; omega, by show (isC t (q1 + 1) 39).toNat ≤ 1; cases isC t (q1 + 1) 39 <;> decide⟩
      · split at h
        · unfold mkC at h
          injection h with a b
          obtain ⟨v, hv, rfl⟩ := Option.map_eq_some_iff.mp a
          have := pThing_5 hv
          exact ⟨Or.inr (Or.inl rfl), hk, this, by show 0 ≤ 1; decide⟩
        · split at h
          · unfold mkC at h
            injection h with a b
            obtain ⟨v, hv, rfl⟩ := Option.map_eq_some_iff.mp a
            have := pThing_5 hv
            exact ⟨Or.inr (Or.inr (Or.inr rfl)), hk, this, by show 0 ≤ 1; decide⟩
          · split at h
            · injection h with a b
              injection a with a
              subst a
              exact ⟨Or.inl rfl, hk, by show 0 ≤ 5; decide, by show 0 ≤ 1; decide⟩
            · injection h with a b; cases a
theorem pAllF_ok {t : List Nat} : ∀ (k q : Nat) {cs : List cmT} {r : Nat}, pAllF t k q = (some cs, r) → ∀ c ∈ cs, okc c := by
  intro k
  induction k with
  | zero => intro q cs r h; rw [pAllF] at h; injection h with a b; cases a
  | succ k ih =>
    intro q cs r h c hc
    cases hC : pCmd t q with
    | mk o q1 =>
      cases o with
      | none => rw [pAllF_n hC] at h; injection h with a b; cases a
      | some c1 =>
        rw [pAllF_c hC] at h
        injection h with a b
        obtain ⟨cs1, h1, rfl⟩ := Option.map_eq_some_iff.mp a
        rcases List.mem_cons.mp hc with rfl | hc
        · exact pCmd_ok hC
        · unfold pCont at h1
          split at h1
          · injection h1 with h1; subst h1; cases hc
          · split at h1
            · cases hA : pAllF t k (q1 + 1) with
              | mk o2 q2 =>
                rw [hA] at h1
                have h1 : o2 = some cs1 := h1
                subst h1
                exact ih _ hA c hc
            · cases h1
section XMW
variable {Z : zT} {G : aG} {I : Nat → Prop} {h h' : aH} {tg : Nat → Nat} {x li sl sb va va' : Nat} {A : adT} {p : Pz} {w : Nat → Nat} {hist : List stT} {slots : Nat → Option stT} {text' : List Nat}
theorem W4_text (hM : WM Z I h tg x li sl sb A p w) (hH : WH G I h tg li hist) (hL : WL I h tg sl slots) (h11 : tg sb = 11) (h12 : tg va = 12) (hs : h sb ≠ none) (hva : h va ≠ none) (hk : kp (fun q => q = sb ∨ q = va) h h') (hn : va' = va ∨ h va' = none) (hV : SBV h' sb va' text') (hlen : text'.length ≤ 80) (hc : ∀ c ∈ text', 33 ≤ c ∧ c ≤ 126) : ∃ tg', (∀ q, h q ≠ none → tg' q = tg q) ∧ WM Z I h' tg' x li sl sb A p w ∧ WH G I h' tg' li hist ∧ WL I h' tg' sl slots ∧ WT h' tg' sb text' := by
  have hIt := hM.I1
  obtain ⟨tg', htg⟩ : ∃ tg' : Nat → Nat, tg' = fun q => @ite _ (h q ≠ none) (Classical.propDecidable _) (tg q) 12 := ⟨_, rfl⟩
  have tgo : ∀ q, h q ≠ none → tg' q = tg q := fun q hq => by rw [htg]; exact if_pos hq
  have hS : ∀ q, (q = sb ∨ q = va) → tg q = 11 ∨ tg q = 12 := fun q z => z.elim (fun e => Or.inl (by rw [e]; exact h11)) (fun e => Or.inr (by rw [e]; exact h12))
  have st : stp (fun q => q = sb ∨ q = va) I I h h' tg tg' := by
    refine ⟨hk, fun _ h => h, fun q hq => ⟨?_, by rw [tgo q (hM.I0 q hq)]; exact hIt q hq⟩, tgo⟩
    cases z : h q with
    | none => exact absurd z (hM.I0 q hq)
    | some y => rw [hk _ _ z (fun e => by have := hS q e; have := hIt q hq; omega)]; simp
  refine ⟨tg', tgo, hM.keep st (fun q z => by have := hS q z; omega), hH.keep st hIt (fun q z => by have := hS q z; omega), hL.keep st hIt (fun q z => by have := hS q z; omega), by rw [tgo sb hs]; exact h11, va', ?_, hV, hlen, hc⟩
  rcases hn with e | e
  · rw [e, tgo va hva]; exact h12
  · rw [htg]; exact if_neg (fun z => z e)
end XMW
section XM
variable {Z : zT} {l : Launch} {G : aG} {h : aH} {x : Nat} {S : ST} {Q : Nat → Prop}
/-- the text is another one -/
theorem WSQ_text {I : Nat → Prop} {h' : aH} {tg : Nat → Nat} {li sl sb va va' : Nat} {A : adT} {text' : List Nat} (hM : WM Z I h tg x li sl sb A S.1.1 S.1.2) (hH : WH G I h tg li S.2.1) (hL : WL I h tg sl S.2.2.1) (h11 : tg sb = 11) (h12 : tg va = 12) (hV0 : SBV h sb va S.2.2.2) (hQ : ∀ q, Q q → tg q = 13 ∧ h q ≠ none) (hk : kp (fun q => q = sb ∨ q = va) h h') (hn : va' = va ∨ h va' = none) (hV : SBV h' sb va' text') (hlen : text'.length ≤ 80) (hc : ∀ c ∈ text', 33 ≤ c ∧ c ≤ 126) : WSQ Z G h' x (S.1, S.2.1, S.2.2.1, text') Q ∧ kp (fun q => ¬ Q q) h h' := by
  have hs : h sb ≠ none ∧ h va ≠ none := by
    obtain ⟨cap, f, mk, o1, o2, -⟩ := hV0
    rw [o1, o2]; simp
  obtain ⟨tg', to, a, b, c, d⟩ := W4_text hM hH hL h11 h12 hs.1 hs.2 hk hn hV hlen hc
  obtain ⟨q1, q2⟩ := Q_keep hQ hk (fun q z => by rcases z with z | z <;> rw [z]; rw [h11]; decide; rw [h12]; decide) to
  exact ⟨⟨I, tg', li, sl, sb, A, a, b, c, d, q1⟩, q2⟩
theorem B_clearText (hl : l.stackTraces = false) (hW : WS Z G h x S) : aC l G mX1_clearText (wsN mX1_clearText) 50 2000 150000 [.ref x] h (opP Z G x (clearTF S)) := by
  obtain ⟨I, tg, li, sl, sb, A, hM, hH, hL, h11, va, h12, hV, hlen, hc⟩ := hW
  have hV0 := hV
  obtain ⟨cap, f, mk, o1, o2, -⟩ := hV
  refine A_X1_clearText hl (vR_mk hM.obj rfl ⟨⟨_, o1⟩, vC_p (B_sblen hl hV0) (by decide) (by decide) (by decide) ⟨_, rfl, vR_mk hM.obj rfl ⟨⟨_, o1⟩, ?_⟩⟩⟩)
  refine vC_r (B_setLen0 hl hV0) (by decide) (by decide) (by decide) fun v h1 hR => ?_
  obtain ⟨rfl, k1, hV1⟩ := hR
  exact ⟨rfl, rfl, (WSQ_text (Q := fun _ => False) hM hH hL h11 h12 hV0 (fun _ => False.elim) (k1.mono fun q z => Or.inl z) (Or.inl rfl) hV1 (Nat.zero_le _) (fun c hc => by cases hc)).1.ws⟩
theorem B_appendText (hl : l.stackTraces = false) (hW : WS Z G h x S) {y : Int64} : aC l G mX1_appendText (wsN mX1_appendText) 50 2000 150000 [.ref x, .long y] h (opP Z G x (appendF S y)) := by
  obtain ⟨X, hX⟩ : ∃ X, X = U6 y := ⟨_, rfl⟩
  have h80 : S.2.2.2.length ≤ 80 := by obtain ⟨I, tg, li, sl, sb, A, -, -, -, -, va, -, -, h, -⟩ := hW; exact h
  -- the characters, one by one
  have t98 : ∀ (a : Nat) (h1 : aH) (c s : Nat) (x6 : Int32), lead X ≠ 0 → okBy X (lead X) = true → X / 256 ^ lead X = 0 → S.2.2.2.length + lead X ≤ 80 → a ≤ lead X → lead X ≤ 8 → (a = 0 → x6 = -1) → (0 < a → x6 = i3 (a - 1)) → c ≤ 100 + (lead X - a) → s ≤ 1000 + 300 * (lead X - a) → WS Z G h1 x (S.1, S.2.1, S.2.2.1, S.2.2.2 ++ chs X (lead X) (lead X - a)) → T_X1_appendText_98 l G 50 2000 150000 (opP Z G x (appendF S y)) x y x6 h1 c s := by
    intro a
    induction a with
    | zero =>
      intro h1 c s x6 hk0 hkB hk1 hk2 ha hk8 e0 e1 hc hs hW1
      have hW10 := hW1
      obtain ⟨I, tg, li, sl, sb, A, hM, hH, hL, h11, va, h12, hV, hlen, hch⟩ := hW1
      have hV0 := hV
      obtain ⟨cap, f, mk, o1, o2, -⟩ := hV
      refine A_X1_appendText_98 hl ⟨fun _ => vR_mk hM.obj rfl ⟨⟨_, o1⟩, vC_p (B_sblen hl hV0) (by decide) (by omega) (by omega) ⟨_, rfl, ?_⟩⟩, fun z => absurd (by rw [e0 rfl]; decide) z⟩
      have eF : appendF S y = (vi (S.2.2.2.length + lead X), (S.1, S.2.1, S.2.2.1, S.2.2.2 ++ chs X (lead X) (lead X))) := by
        unfold appendF
        rw [← hX, if_pos ⟨hk0, hkB, hk1⟩, if_pos hk2]
      rw [eF]
      refine ⟨?_, hW10⟩
      show Sum.inl (some (Value.int (i3 (S.2.2.2 ++ chs X (lead X) (lead X - 0)).length))) = _
      rw [List.length_append, chs_len]; rfl
    | succ a ih =>
      intro h1 c s x6 hk0 hkB hk1 hk2 ha hk8 e0 e1 hc hs hW1
      obtain ⟨I, tg, li, sl, sb, A, hM, hH, hL, h11, va, h12, hV, hlen, hch⟩ := hW1
      have hV0 := hV
      obtain ⟨cap, f, mk, o1, o2, -⟩ := hV
      have e6 : x6 = i3 a := e1 (Nat.succ_pos a)
      have hb := okBy_get hkB (j := a) (by omega)
      refine A_X1_appendText_98 hl ⟨fun z => absurd z (by rw [e6, i3_neg_lt (by omega)]; exact id), fun _ => vR_mk hM.obj rfl ⟨⟨_, o1⟩, ?_⟩⟩
      have ec : (((((y >>> (((8 : Int32) * x6).toInt64 &&& 63)) &&& (255 : Int64)).toInt32).toUInt32 % 65536).toInt32) = i3 (byt X a) := by
        rw [e6, byte_s (by omega), ← hX]
        exact chr2 ⟨byt X a, by omega⟩
      rw [ec]
      have hll : (S.2.2.2 ++ chs X (lead X) (lead X - (a + 1))).length = S.2.2.2.length + (lead X - (a + 1)) := by rw [List.length_append, chs_len]
      refine vC_r (B_append hl hV0 (c := byt X a) (by omega) (by show (S.2.2.2 ++ chs X (lead X) (lead X - (a + 1))).length < 100; omega)) (by decide) (by omega) (by omega) fun v h2 hR => ?_
      obtain ⟨rfl, k2, va', hn, hV2⟩ := hR
      have ech : (S.2.2.2 ++ chs X (lead X) (lead X - (a + 1))) ++ [byt X a] = S.2.2.2 ++ chs X (lead X) (lead X - a) := by
        rw [List.append_assoc, show lead X - a = (lead X - (a + 1)) + 1 by omega, chs_succ, show lead X - 1 - (lead X - (a + 1)) = a by omega]
      have hV2 : SBV h2 sb va' ((S.2.2.2 ++ chs X (lead X) (lead X - (a + 1))) ++ [byt X a]) := hV2
      rw [ech] at hV2
      have hfin := (WSQ_text (S := (S.1, S.2.1, S.2.2.1, S.2.2.2 ++ chs X (lead X) (lead X - (a + 1)))) (Q := fun _ => False) hM hH hL h11 h12 hV0 (fun _ => False.elim) k2 hn hV2 (by rw [List.length_append, chs_len]; omega) (fun c hc => ?_)).1.ws
      · refine ⟨_, rfl, ih h2 _ _ _ hk0 hkB hk1 hk2 (by omega) hk8 (fun z => ?_) (fun z => ?_) (by omega) (by omega) hfin⟩
        · rw [e6, z]; rfl
        · rw [e6]; exact i3_predm z
      · rw [← ech] at hc
        rcases List.mem_append.mp hc with hc | hc
        · exact hch c hc
        · rw [List.mem_singleton.mp hc]; exact hb
  -- the length is known
  have t52 : ∀ (x4 : Int64) (c s : Nat), lead X ≤ 8 → okBy X (lead X) = true → U6 x4 = X / 256 ^ lead X → c ≤ 50 → s ≤ 500 → T_X1_appendText_52 l G 50 2000 150000 (opP Z G x (appendF S y)) x y (i3 (lead X)) x4 h c s := by
    intro x4 c s hk8 hkB hx4 hc hs
    have hW0 := hW
    obtain ⟨I, tg, li, sl, sb, A, hM, hH, hL, h11, va, h12, hV, hlen, hch⟩ := hW
    have hV0 := hV
    obtain ⟨cap, f, mk, o1, o2, -⟩ := hV
    refine A_X1_appendText_52 hl ?_
    unfold V_X1_appendText_52
    rw [i3_neg_le (by omega)]
    refine ⟨fun z => ?_, fun z => ?_⟩
    · refine vC_c (b := false) (B_checkArgument (b := false) hl) (by decide) (by omega) (by omega) (fun w => by cases w) (fun _ => ?_)
      have eF : appendF S y = (.inr exA, S) := by unfold appendF; rw [← hX, if_neg (fun w => w.1 z)]
      rw [eF]
      exact ⟨rfl, hW0⟩
    · simp only [cmp0, U_0, hx4]
      rw [bI_if]
      refine vC_c (B_checkArgument hl) (by decide) (by omega) (by omega) (fun q => ⟨rfl, vR_mk hM.obj rfl ⟨⟨_, o1⟩, vC_p (B_sblen hl hV0) (by decide) (by omega) (by omega) ⟨_, rfl, ?_⟩⟩⟩) (fun q => ?_)
      · have q1 : X / 256 ^ lead X = 0 := of_decide_eq_true q
        have e80 : (80 < i3 S.2.2.2.length + i3 (lead X)) = (80 < S.2.2.2.length + lead X) := by
          rw [i3_add]; exact i3_lt (a := 80) (by decide) (by omega)
        simp only [e80]
        rw [bI_if']
        refine vC_c (B_checkState hl) (by decide) (by omega) (by omega) (fun q2 => ⟨rfl, ?_⟩) (fun q2 => ?_)
        · have q3 := of_decide_eq_true q2
          rw [i3_pred (by omega)]
          refine t98 (lead X) h _ _ _ z hkB q1 (by omega) (Nat.le_refl _) hk8 (fun w => absurd w z) (fun _ => rfl) (by omega) (by omega) ?_
          rw [Nat.sub_self]
          have : S.2.2.2 ++ chs X (lead X) 0 = S.2.2.2 := List.append_nil _
          rw [this]; exact hW0
        · have q3 := of_decide_eq_false q2
          have eF : appendF S y = (.inr exS, S) := by unfold appendF; rw [← hX, if_pos ⟨z, hkB, q1⟩, if_neg (by omega)]
          rw [eF]
          exact ⟨rfl, hW0⟩
      · have q1 := of_decide_eq_false q
        have eF : appendF S y = (.inr exA, S) := by unfold appendF; rw [← hX, if_neg (fun w => q1 w.2.2)]
        rw [eF]
        exact ⟨rfl, hW0⟩
  -- the bytes are looked at
  have t5 : ∀ (k j : Nat) (x4 : Int64) (c s : Nat), k + j = 8 → okBy X j = true → lead X = ledN X k j → U6 x4 = X / 256 ^ j → c ≤ j → s ≤ 6 * j → T_X1_appendText_5 l G 50 2000 150000 (opP Z G x (appendF S y)) x y (i3 j) x4 h c s := by
    intro k
    induction k with
    | zero =>
      intro j x4 c s hj hB hld hx4 hc hs
      have : j = 8 := by omega
      subst this
      have hld : lead X = 8 := hld
      refine A_X1_appendText_5 hl ⟨fun _ => ?_, fun z => absurd (by decide) z⟩
      rw [← hld]
      exact t52 x4 c s (by omega) (by rw [hld]; exact hB) (by rw [hld]; exact hx4) (by omega) (by omega)
    | succ k ih =>
      intro j x4 c s hj hB hld hx4 hc hs
      have e8 : ((8 : Int32) ≤ i3 j) = (8 ≤ j) := i3_le (a := 8) (by decide) (by omega)
      refine A_X1_appendText_5 hl ⟨fun z => absurd (by rwa [e8] at z) (by omega : ¬ 8 ≤ j), fun _ => ?_⟩
      have hbj : U6 x4 % 256 = byt X j := by rw [hx4]; rfl
      rw [ledN] at hld
      simp only [cmp0, U_and, hbj]
      refine ⟨fun z => ?_, fun z => ?_⟩
      · rw [if_pos z] at hld
        rw [← hld]
        exact t52 x4 c s (by omega) (by rw [hld]; exact hB) (by rw [hld]; exact hx4) (by omega) (by omega)
      · rw [if_neg z] at hld
        have hlt : byt X j < 256 := Nat.mod_lt _ (by decide)
        have e3 : inI ((x4 &&& (255 : Int64)).toInt32) 33 126 = decide (33 ≤ byt X j ∧ byt X j ≤ 126) := by
          rw [byte_0, hbj]
          exact inI_i3 (a := 33) (b := 126) (by omega) (by decide) (by decide)
        refine vC_p (B_isInG hl) (by decide) (by omega) (by omega) ⟨_, rfl, ?_⟩
        rw [e3]
        refine vC_c (B_checkArgument hl) (by decide) (by omega) (by omega) (fun q => ⟨rfl, fun v11 hv => ?_⟩) (fun q => ?_)
        · have e4 : v11 = sh8 x4 := hv
          rw [e4, i3_succ]
          refine ih (j + 1) (sh8 x4) _ _ (by omega) (by rw [okBy_succ, hB, q]; rfl) hld ?_ (by omega) (by omega)
          rw [U_sh8, hx4, Nat.div_div_eq_div_mul, Nat.pow_succ]
        · have eF : appendF S y = (.inr exA, S) := by
            unfold appendF
            rw [← hX, if_neg]
            rintro ⟨w1, w2, w3⟩
            have g := (ledN_ge (X := X) k (j + 1)).1
            have := List.all_eq_true.mp w2 j (List.mem_range.mpr (by omega))
            rw [q] at this; cases this
          rw [eF]
          exact ⟨rfl, hW⟩
  refine A_X1_appendText hl (t5 8 0 y 0 0 rfl rfl rfl ?_ (Nat.zero_le _) (Nat.zero_le _))
  rw [Nat.pow_zero, Nat.div_one]; exact hX.symm
end XM
