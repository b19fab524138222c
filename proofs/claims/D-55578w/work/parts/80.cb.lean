/-! BASE of the component: what lies where, what stays, what it costs -/
set_option maxRecDepth 100000
/-- an array of values -/
def ra (n : Nat) (f : Nat → Value) : List Value := (List.range n).map f
theorem ra_len (n : Nat) (f : Nat → Value) : (ra n f).length = n := by simp [ra]
theorem ra_get {n k : Nat} {f : Nat → Value} (h : k < n) : (ra n f)[k]? = some (f k) := by simp [ra, List.getElem?_map, List.getElem?_range h]
theorem ra_set (n k : Nat) (f : Nat → Value) (x : Value) : (ra n f).set k x = ra n (up f k x) := by
  apply List.ext_getElem?
  intro j
  rw [List.getElem?_set]
  simp only [ra, List.length_map, List.length_range, List.getElem?_map, up]
  rcases Nat.lt_or_ge j n with hj | hj
  · by_cases e : k = j
    · subst e; simp [hj, up]
    · rw [if_neg e, List.getElem?_range hj]
      simp [up, Ne.symm (show k ≠ j from e)]
  · by_cases e : k = j
    · subst e; rw [if_pos rfl, if_neg (by omega)]; simp [List.getElem?_eq_none, hj]
    · rw [if_neg e]; simp [List.getElem?_eq_none, hj]
theorem ra_rep (n : Nat) (v : Value) : List.replicate n v = ra n (fun _ => v) := by
  apply List.ext_getElem?
  intro j
  rw [List.getElem?_replicate]
  simp only [ra, List.getElem?_map]
  rcases Nat.lt_or_ge j n with hj | hj
  · rw [if_pos hj, List.getElem?_range hj]; rfl
  · rw [if_neg (by omega)]; simp [List.getElem?_eq_none, hj]
theorem ia_rep0 (n : Nat) : List.replicate n (Value.int (iI 0)) = ia n (fun _ => 0) := ia_rep n
theorem ra_congr {n : Nat} {f g : Nat → Value} (h : ∀ k, k < n → f k = g k) : ra n f = ra n g := by
  simp only [ra]
  apply List.map_congr_left
  intro j hj
  rw [h j (List.mem_range.1 hj)]
theorem ia_ra (n : Nat) (f : Nat → Int) : ia n f = ra n (fun k => .int (iI (f k))) := rfl
theorem hset_hset (h : HS) (a : Nat) (o o' : Nat × List Value) : hset (hset h a o) a o' = hset h a o' := by
  apply Prod.ext
  · funext b
    simp only [hset]
    split <;> rfl
  · rfl
/-- so much may still be made -/
def cCr (n : Nat) (h : HS) : Prop := n ≤ h.2.2.1 ∧ 5 * n ≤ h.2.2.2
/-- what was known is known still, but for what lies in O; at most n were made -/
def cFr (O : Nat → Prop) (h0 : HS) (n : Nat) (h : HS) : Prop := WF h0 ∧ WF h ∧ h0.2.1 ≤ h.2.1 ∧ (∀ b o, ¬ O b → h0.1 b = some o → h.1 b = some o) ∧ h0.2.2.1 ≤ h.2.2.1 + n ∧ h0.2.2.2 ≤ h.2.2.2 + 5 * n
abbrev cEx (h0 : HS) (n : Nat) (h : HS) : Prop := cFr (fun _ => False) h0 n h
section FR
variable {O O' : Nat → Prop} {h0 h h' : HS} {n m k a : Nat} {o o' : Nat × List Value}
theorem cFr.rfl (w : WF h) : cFr O h 0 h := ⟨w, w, Nat.le_refl _, fun _ _ _ q => q, Nat.le_refl _, Nat.le_refl _⟩
theorem cFr.w (f : cFr O h0 n h) : WF h := f.2.1
theorem cFr.w0 (f : cFr O h0 n h) : WF h0 := f.1
theorem cFr.nx (f : cFr O h0 n h) : h0.2.1 ≤ h.2.1 := f.2.2.1
theorem cFr.at (f : cFr O h0 n h) (hO : ¬ O a) (ha : h0.1 a = some o) : h.1 a = some o := f.2.2.2.1 a o hO ha
theorem cEx.at (f : cEx h0 n h) (ha : h0.1 a = some o) : h.1 a = some o := f.2.2.2.1 a o (fun q => q) ha
theorem cFr.set (f : cFr O h0 n h) (ha : h.1 a = some o) (hO : h0.2.1 ≤ a ∨ O a) : cFr O h0 n (hset h a o') := by
  obtain ⟨f1, f2, f3, f4, f5, f6⟩ := f
  refine ⟨f1, f2.set ha, f3, fun b ob hb q => ?_, f5, f6⟩
  rw [hset_at]
  by_cases e : b = a
  · subst e
    rcases hO with hO | hO
    · rw [f1 b hO] at q; cases q
    · exact absurd hO hb
  · rw [if_neg e]; exact f4 b ob hb q
theorem cFr.new (f : cFr O h0 n h) (hk : k ≤ 5 * m) (hm : 1 ≤ m) : cFr O h0 (n + m) (hnew h o k) := by
  obtain ⟨f1, f2, f3, f4, f5, f6⟩ := f
  refine ⟨f1, f2.new o k, Nat.le_succ_of_le f3, fun b ob hb q => ?_, ?_, ?_⟩
  · have := f4 b ob hb q
    rw [hnew_at, if_neg (f2.ne this)]
    exact this
  · rw [hnew_2]; simp only; omega
  · rw [hnew_2]; simp only; omega
theorem cFr.tr (f : cFr O h0 n h) (g : cFr O' h m h') (hO : ∀ b, b < h0.2.1 → O' b → O b) (hk : n + m ≤ k) : cFr O h0 k h' := by
  obtain ⟨f1, f2, f3, f4, f5, f6⟩ := f
  obtain ⟨g1, g2, g3, g4, g5, g6⟩ := g
  refine ⟨f1, g2, Nat.le_trans f3 g3, fun b ob hb q => g4 b ob (fun q2 => hb (hO b (f1.lt q) q2)) (f4 b ob hb q), by omega, by omega⟩
theorem cEx.tr (f : cEx h0 n h) (g : cEx h m h') (hk : n + m ≤ k) : cEx h0 k h' := cFr.tr f g (fun _ _ q => q) hk
theorem cFr.mono (f : cFr O h0 n h) (hk : n ≤ k) : cFr O h0 k h := f.tr (cFr.rfl (O := O) f.w) (fun _ _ q => q) (by omega)
theorem cEx.fr (f : cEx h0 n h) : cFr O h0 n h := ⟨f.1, f.2.1, f.2.2.1, fun b ob _ q => f.2.2.2.1 b ob (fun q => q) q, f.2.2.2.2.1, f.2.2.2.2.2⟩
theorem cFr.cr (f : cFr O h0 n h) (c : cCr k h0) (hk : n + m ≤ k) : cCr m h := by
  obtain ⟨f1, f2, f3, f4, f5, f6⟩ := f
  obtain ⟨c1, c2⟩ := c
  exact ⟨by omega, by omega⟩
theorem cCr.mono (c : cCr k h) (hk : m ≤ k) : cCr m h := ⟨by have := c.1; omega, by have := c.2; omega⟩
theorem cCr.c1 (c : cCr k h) : k ≤ h.2.2.1 := c.1
theorem cCr.c2 (c : cCr k h) : 5 * k ≤ h.2.2.2 := c.2
end FR
/-! arcs -/
def aK (x : AR) : Nat := if x.2.2.1 = 4 then 10 else 11
def aL (x : AR) : List Value := if x.2.2.1 = 4 then [.int (iI x.1), .int (iI x.2.1), .int (iI x.2.2.2.1), .int (iI x.2.2.2.2)] else [.int (iI x.1), .int (iI x.2.1), .int (iI x.2.2.1), .int (iI x.2.2.2.1), .int (iI x.2.2.2.2)]
theorem aK_1 (x : AR) : inK [10, 11] (aK x) = true := by unfold aK; split <;> rfl
theorem aK_10 (x : AR) : (inK [10] (aK x) = true) = (x.2.2.1 = 4) := by unfold aK; split <;> rename_i q <;> simp [q, inK, kd]
theorem aK_11 (x : AR) : (inK [11] (aK x) = true) = (¬ x.2.2.1 = 4) := by unfold aK; split <;> rename_i q <;> simp [q, inK, kd]
theorem aK_st (x : AR) : (kd (aK x), 103) ∈ stab := by unfold aK; split <;> decide
theorem aK_le (x : AR) : aK x < 200 := by unfold aK; split <;> decide
theorem st_1_103 : (kd 1, 103) ∈ stab := by decide
theorem st_2_105 : (kd 2, 105) ∈ stab := by decide
theorem st_12_106 : (kd 12, 106) ∈ stab := by decide
theorem st_99_104 : (kd 99, 104) ∈ stab := by decide
/-- a field of an arc, whichever it is -/
def aGet (i j c : Nat) (vs : List Value) (K : Int32 → Prop) : Prop := if inK [10] c = true then (match vs[i]? with | some (.int z) => K z | _ => False) else if inK [11] c = true then (match vs[j]? with | some (.int z) => K z | _ => False) else False
theorem aGet_f {x : AR} {K : Int32 → Prop} : aGet 0 0 (aK x) (aL x) K = K (iI x.1) := by unfold aGet aK aL; split <;> rfl
theorem aGet_t {x : AR} {K : Int32 → Prop} : aGet 1 1 (aK x) (aL x) K = K (iI x.2.1) := by unfold aGet aK aL; split <;> rfl
theorem aGet_s {x : AR} {K : Int32 → Prop} : aGet 2 3 (aK x) (aL x) K = K (iI x.2.2.2.1) := by unfold aGet aK aL; split <;> rfl
theorem aGet_w {x : AR} {K : Int32 → Prop} : aGet 3 4 (aK x) (aL x) K = K (iI x.2.2.2.2) := by unfold aGet aK aL; split <;> rfl
/-- what an arc hears -/
def aGeh (c : Nat) (vs : List Value) (K : Int32 → Prop) : Prop := if inK [10] c = true then K 4 else if inK [11] c = true then (match vs[(2 : Nat)]? with | some (.int z) => K z | _ => False) else False
theorem aGet_h {x : AR} {K : Int32 → Prop} : aGeh (aK x) (aL x) K = K (iI x.2.2.1) := by
  unfold aGeh aK aL
  split
  · next h => rw [h]; rfl
  · rfl
section ARC
variable {E : Nat → Value} {Q : Rs → HS → Prop} {X X' : Xt} {K : Ct} {ls r : List Value} {a : Nat} {h : HS}
theorem e_afrom : o_vsel 1 [10] (o_callV [10] 1 (wX7_from E) X K) (o_callV [11] 1 (wX8_from E) X' K) ls (.ref a :: r) h = (match h.1 a with | some (c, vs) => catSum r ≤ 8 ∧ aGet 0 0 c vs (fun z => K ls (.int z :: r) h) | none => False) := by
  rw [e_vsel1]
  cases hσ : h.1 a with
  | none => rfl
  | some o =>
    obtain ⟨c, vs⟩ := o
    simp only [aGet]
    by_cases h1 : inK [10] c = true
    · simp only [h1, if_true, e_callV1, hσ, wX7_from, bX7_from_0, e_aload0r, e_getf, true_and, ok_nil]
      cases hv : vs[0]? with
      | none => simp
      | some v => cases v <;> simp [o_ireturn, narrow, callPost]
    · by_cases h2 : inK [11] c = true
      · simp only [h1, h2, if_true, if_false, e_callV1, hσ, wX8_from, bX8_from_0, e_aload0r, e_getf, true_and, ok_nil, Bool.false_eq_true]
        cases hv : vs[0]? with
        | none => simp
        | some v => cases v <;> simp [o_ireturn, narrow, callPost]
      · simp only [h1, h2, if_false, e_callV1, hσ, false_and, and_false, Bool.false_eq_true]
theorem e_ato : o_vsel 1 [10] (o_callV [10] 1 (wX7_to E) X K) (o_callV [11] 1 (wX8_to E) X' K) ls (.ref a :: r) h = (match h.1 a with | some (c, vs) => catSum r ≤ 8 ∧ aGet 1 1 c vs (fun z => K ls (.int z :: r) h) | none => False) := by
  rw [e_vsel1]
  cases hσ : h.1 a with
  | none => rfl
  | some o =>
    obtain ⟨c, vs⟩ := o
    simp only [aGet]
    by_cases h1 : inK [10] c = true
    · simp only [h1, if_true, e_callV1, hσ, wX7_to, bX7_to_0, e_aload0r, e_getf, true_and, ok_nil]
      cases hv : vs[1]? with
      | none => simp
      | some v => cases v <;> simp [o_ireturn, narrow, callPost]
    · by_cases h2 : inK [11] c = true
      · simp only [h1, h2, if_true, if_false, e_callV1, hσ, wX8_to, bX8_to_0, e_aload0r, e_getf, true_and, ok_nil, Bool.false_eq_true]
        cases hv : vs[1]? with
        | none => simp
        | some v => cases v <;> simp [o_ireturn, narrow, callPost]
      · simp only [h1, h2, if_false, e_callV1, hσ, false_and, and_false, Bool.false_eq_true]
theorem e_asings : o_vsel 1 [10] (o_callV [10] 1 (wX7_sings E) X K) (o_callV [11] 1 (wX8_sings E) X' K) ls (.ref a :: r) h = (match h.1 a with | some (c, vs) => catSum r ≤ 8 ∧ aGet 2 3 c vs (fun z => K ls (.int z :: r) h) | none => False) := by
  rw [e_vsel1]
  cases hσ : h.1 a with
  | none => rfl
  | some o =>
    obtain ⟨c, vs⟩ := o
    simp only [aGet]
    by_cases h1 : inK [10] c = true
    · simp only [h1, if_true, e_callV1, hσ, wX7_sings, bX7_sings_0, e_aload0r, e_getf, true_and, ok_nil]
      cases hv : vs[2]? with
      | none => simp
      | some v => cases v <;> simp [o_ireturn, narrow, callPost]
    · by_cases h2 : inK [11] c = true
      · simp only [h1, h2, if_true, if_false, e_callV1, hσ, wX8_sings, bX8_sings_0, e_aload0r, e_getf, true_and, ok_nil, Bool.false_eq_true]
        cases hv : vs[3]? with
        | none => simp
        | some v => cases v <;> simp [o_ireturn, narrow, callPost]
      · simp only [h1, h2, if_false, e_callV1, hσ, false_and, and_false, Bool.false_eq_true]
theorem e_aweight : o_vsel 1 [10] (o_callV [10] 1 (wX7_weight E) X K) (o_callV [11] 1 (wX8_weight E) X' K) ls (.ref a :: r) h = (match h.1 a with | some (c, vs) => catSum r ≤ 8 ∧ aGet 3 4 c vs (fun z => K ls (.int z :: r) h) | none => False) := by
  rw [e_vsel1]
  cases hσ : h.1 a with
  | none => rfl
  | some o =>
    obtain ⟨c, vs⟩ := o
    simp only [aGet]
    by_cases h1 : inK [10] c = true
    · simp only [h1, if_true, e_callV1, hσ, wX7_weight, bX7_weight_0, e_aload0r, e_getf, true_and, ok_nil]
      cases hv : vs[3]? with
      | none => simp
      | some v => cases v <;> simp [o_ireturn, narrow, callPost]
    · by_cases h2 : inK [11] c = true
      · simp only [h1, h2, if_true, if_false, e_callV1, hσ, wX8_weight, bX8_weight_0, e_aload0r, e_getf, true_and, ok_nil, Bool.false_eq_true]
        cases hv : vs[4]? with
        | none => simp
        | some v => cases v <;> simp [o_ireturn, narrow, callPost]
      · simp only [h1, h2, if_false, e_callV1, hσ, false_and, and_false, Bool.false_eq_true]
theorem e_ahears : o_vsel 1 [10] (o_callV [10] 1 (wX7_hears E) X K) (o_callV [11] 1 (wX8_hears E) X' K) ls (.ref a :: r) h = (match h.1 a with | some (c, vs) => catSum r ≤ 8 ∧ aGeh c vs (fun z => K ls (.int z :: r) h) | none => False) := by
  rw [e_vsel1]
  cases hσ : h.1 a with
  | none => rfl
  | some o =>
    obtain ⟨c, vs⟩ := o
    simp only [aGeh]
    by_cases h1 : inK [10] c = true
    · simp [h1, e_callV1, hσ, wX7_hears, bX7_hears_0, o_ireturn, narrow, callPost, o_push, ok_nil]
    · by_cases h2 : inK [11] c = true
      · simp only [h1, h2, if_true, if_false, e_callV1, hσ, wX8_hears, bX8_hears_0, e_aload0r, e_getf, true_and, ok_nil, Bool.false_eq_true]
        cases hv : vs[(2 : Nat)]? with
        | none => simp
        | some v => cases v <;> simp [o_ireturn, narrow, callPost]
      · simp only [h1, h2, if_false, e_callV1, hσ, false_and, and_false, Bool.false_eq_true]
end ARC
/-! lists of arcs -/
/-- the list at l, told exactly -/
def cLi (h : HS) (l : Nat) (mc : Int32) (e n : Nat) (f : Nat → Value) (L : List AR) : Prop :=
  h.1 l = some (15, [.int mc, .ref e, .int (iI L.length)]) ∧ h.1 e = some (103, ra n f) ∧ L.length ≤ n ∧ n ≤ 144 ∧ ∀ (i : Nat) x, L[i]? = some x → ∃ a, f i = .ref a ∧ h.1 a = some (aK x, aL x)
def cAL (h : HS) (l : Nat) (L : List AR) : Prop := ∃ mc e n f, cLi h l mc e n f L
theorem cLi.mono {h h' : HS} {l : Nat} {mc : Int32} {e n : Nat} {f : Nat → Value} {L : List AR} (H : cLi h l mc e n f L) (hm : ∀ b o, h.1 b = some o → h'.1 b = some o) : cLi h' l mc e n f L := by
  obtain ⟨h1, h2, h3, h4, h5⟩ := H
  refine ⟨hm _ _ h1, hm _ _ h2, h3, h4, fun i x hx => ?_⟩
  obtain ⟨a, q1, q2⟩ := h5 i x hx
  exact ⟨a, q1, hm _ _ q2⟩
/-- the kinds of what a machine is made of -/
def mkK (k : Nat) : Prop := k ∈ [1, 2, 4, 15, 103, 10, 11, 100, 105]
theorem mkK_a (x : AR) : mkK (aK x) := by unfold aK mkK; split <;> simp
theorem cLi.monoK {h h' : HS} {l : Nat} {mc : Int32} {e n : Nat} {f : Nat → Value} {L : List AR} (H : cLi h l mc e n f L) (hm : ∀ b o, mkK o.1 → h.1 b = some o → h'.1 b = some o) : cLi h' l mc e n f L := by
  obtain ⟨h1, h2, h3, h4, h5⟩ := H
  refine ⟨hm _ _ (by simp [mkK]) h1, hm _ _ (by simp [mkK]) h2, h3, h4, fun i x hx => ?_⟩
  obtain ⟨a, q1, q2⟩ := h5 i x hx
  exact ⟨a, q1, hm _ _ (mkK_a x) q2⟩
theorem cLi.ex {h0 h : HS} {k : Nat} {l : Nat} {mc : Int32} {e n : Nat} {f : Nat → Value} {L : List AR} (H : cLi h0 l mc e n f L) (hx : cEx h0 k h) : cLi h l mc e n f L := H.mono (fun _ _ q => hx.at q)
theorem cAL.mono {h h' : HS} {l : Nat} {L : List AR} (H : cAL h l L) (hm : ∀ b o, h.1 b = some o → h'.1 b = some o) : cAL h' l L := by
  obtain ⟨mc, e, n, f, H⟩ := H
  exact ⟨mc, e, n, f, H.mono hm⟩
section EACH
variable {E : Nat → Value} {Q : Rs → HS → Prop} {Xo : Xt} {EX BODY : Ct} {ls r : List Value} {h h0 : HS} {i j it l e n : Nat} {mc : Int32} {f : Nat → Value} {L : List AR}
theorem hset_hnew (h : HS) (o o' : Nat × List Value) (n : Nat) : hset (hnew h o n) h.2.1 o' = hnew h o' n := by
  apply Prod.ext
  · funext b
    simp only [hset, hnew]
    split <;> rfl
  · rfl
theorem fe_start {Q : Rs → HS → Prop} {z1 z2 : Value} (hw : WF h) (hl : h.1 l = some (15, [.int mc, z1, z2])) (c1 : 1 ≤ h.2.2.1) (c2 : 4 ≤ h.2.2.2) (hb : Q (.inl (some (.ref h.2.1))) (hnew h (20, [.int (iI 0), .int (iI (-1)), .int mc, .ref l]) 4)) : wJ2_iterator E [.ref l] h Q := by
  have hne : ¬ l = h.2.1 := hw.ne hl
  have hne2 : ¬ h.2.1 = l := fun q => hne q.symm
  simp (disch := omega) only [wJ2_iterator, bJ2_iterator_0, wJ9_init, bJ9_init_0, e_iload0, e_aload0r, e_aload0n, e_istore0, e_astore0r, e_astore0n, e_iinc0, e_iload1, e_aload1r, e_aload1n, e_istore1, e_astore1r, e_astore1n, e_iinc1, e_iload2, e_aload2r, e_aload2n, e_istore2, e_astore2r, e_astore2n, e_iinc2, e_iload3, e_aload3r, e_aload3n, e_istore3, e_astore3r, e_astore3n, e_iinc3, e_iload4, e_aload4r, e_aload4n, e_istore4, e_astore4r, e_astore4n, e_iinc4, e_iload5, e_aload5r, e_aload5n, e_istore5, e_astore5r, e_astore5n, e_iinc5, e_iload6, e_aload6r, e_aload6n, e_istore6, e_astore6r, e_astore6n, e_iinc6, e_iload7, e_aload7r, e_aload7n, e_istore7, e_astore7r, e_astore7n, e_iinc7, e_iload8, e_aload8r, e_aload8n, e_istore8, e_astore8r, e_astore8n, e_iinc8, e_iload9, e_aload9r, e_aload9n, e_istore9, e_astore9r, e_astore9n, e_iinc9, e_dload4, e_dstore4, e_dload6, e_dstore6, e_push, e_iadd, e_isub, e_imul, e_iand, e_ior, e_ixor, e_ishl, e_ishr, e_iushr, e_idiv, e_irem, e_ineg, e_i2c, e_i2b, e_i2d, e_i2f, e_ddiv, e_fdiv, e_f2d, e_dcmp, e_dup_i, e_pop_i, e_dup_x1_ii, e_dup2_ii, e_dup_x1_ir, e_dup2_ir, e_dup_x1_in, e_dup2_in, e_dup_r, e_pop_r, e_dup_x1_ri, e_dup2_ri, e_dup_x1_rr, e_dup2_rr, e_dup_x1_rn, e_dup2_rn, e_dup_n, e_pop_n, e_dup_x1_ni, e_dup2_ni, e_dup_x1_nr, e_dup2_nr, e_dup_x1_nn, e_dup2_nn, e_ifeq, e_ifne, e_iflt, e_ifge, e_ifgt, e_ifle, e_icmpeq, e_icmpne, e_icmplt, e_icmpge, e_icmpgt, e_icmple, e_ifnull_n, e_ifnull_r, e_ifnonnull_n, e_ifnonnull_r, e_acmpeq_rr, e_acmpeq_rn, e_acmpeq_nr, e_acmpeq_nn, e_acmpne_rr, e_acmpne_rn, e_acmpne_nr, e_acmpne_nn, e_getf, e_putf, e_alen, e_ald, e_slen, e_sld, e_ast, e_aastr, e_aastn, e_new, e_newa, e_cast_n, e_cast_r, e_inst_n, e_inst_r, e_objInit, e_ireturn, e_return, e_areturn_r, e_areturn_n, e_dreturn, e_freturn, e_athrow, e_xout, e_xcatch, e_call0, e_call1, e_callI1, e_callV1, e_vsel1, e_call2, e_callI2, e_callV2, e_vsel2, e_call3, e_callI3, e_callV3, e_vsel3, e_call4, e_callI4, e_callV4, e_vsel4, e_call5, e_callI5, e_callV5, e_vsel5, e_call6, e_callI6, e_callV6, e_vsel6, e_call7, e_callI7, e_callV7, e_vsel7, e_callLam, e_cp0, e_cp1, e_cpx, e_imax, e_imin, e_sw, e_sw0, e_sw1, ok_nil, ok_i, ok_r, ok_n, cs_nil, cs_i, cs_r, cs_n, cs_d, cs_f, cat_i, cat_r, cat_n, na_i, na_ar, na_an, na_rr, na_rn, na_z0, na_z1, na_b0, na_b1, fi_i, fi_ar, fi_an, fi_rr, fi_rn, fi_z0, fi_z1, fi_b0, fi_b1, ik_0_0, ik_1_1, ik_10_10, ik_10_11_10, ik_10_11_11, ik_100_100, ik_100_300, ik_101_102_101, ik_101_102_102, ik_101_102_302, ik_102_102, ik_102_302, ik_103_104_105_106_107_103, ik_103_104_105_106_107_303, ik_103_104_105_106_107_104, ik_103_104_105_106_107_105, ik_103_104_105_106_107_106, ik_103_104_105_106_107_107, ik_103_104_105_106_107_307, ik_107_107, ik_107_307, ik_11_11, ik_12_12, ik_14_14, ik_14_15_14, ik_14_15_15, ik_15_15, ik_16_16, ik_17_17, ik_18_18, ik_19_19, ik_19_219, ik_2_2, ik_2_4_2, ik_2_4_4, ik_20_20, ik_21_21, ik_21_221, ik_21_22_21, ik_21_22_221, ik_21_22_22, ik_21_22_222, ik_3_3, ik_4_4, ik_5_5, ik_6_6, ik_6_9_13_6, ik_6_9_13_9, ik_6_9_13_13, ik_7_7, ik_8_8, ik_9_9, jk__9, jk_10_2, jk_10_4, jk_10_11, jk_10_18, jk_10_19, jk_10_21, jk_10_22, jk_10_219, jk_10_221, jk_10_222, jk_11_10, jk_14_2, jk_14_4, jk_14_10, jk_14_11, jk_14_18, jk_14_19, jk_14_21, jk_14_22, jk_14_219, jk_14_221, jk_14_222, jk_15_2, jk_15_4, jk_15_10, jk_15_11, jk_15_18, jk_15_19, jk_15_21, jk_15_22, jk_15_219, jk_15_221, jk_15_222, jk_18_2, jk_18_4, jk_18_10, jk_18_11, jk_18_19, jk_18_21, jk_18_22, jk_18_219, jk_18_221, jk_18_222, jk_2_4, jk_2_10, jk_2_11, jk_2_18, jk_2_19, jk_2_21, jk_2_22, jk_2_219, jk_2_221, jk_2_222, jk_21_2, jk_21_4, jk_21_10, jk_21_11, jk_21_18, jk_21_19, jk_21_22, jk_21_219, jk_21_222, jk_6_9, jk_9_6, kd_100, kd_101, kd_102, kd_103, kd_104, kd_105, kd_106, kd_107, kd_300, kd_302, kd_303, kd_307, List.getElem?_cons_succ, List.getElem?_cons_zero, List.getElem?_nil, List.set_cons_zero, List.set_cons_succ, true_and, and_true, and_self, if_true, if_false, not_false_iff, not_true, ↓reduceIte, reduceCtorEq, Nat.reduceLT, Nat.reduceLeDiff, Nat.reduceAdd, Nat.reduceSub, Nat.reduceEqDiff, Nat.reduceMod, hset_2, hnew_at, hnew_2, Nat.add_zero, Nat.zero_add, Nat.le_refl, and_false, false_and, Option.some.injEq, Prod.mk.injEq, Value.ref.injEq, bI_F, bI_T, bI_z, lt_t, lt_f, le_t, le_f, ieq_f, ieq_t, nlt_t, neq_f, ast_i, bI_or, bI_and, Int.toNat_natCast, Int.cast_ofNat_Int, not_false_eq_true, not_true_eq_false, ite_not, Int.reduceNeg, Int.reduceAdd, Int.reduceSub, Int.reduceMul, Int.reduceLT, Int.reduceLE, Int.reduceEq, Int.reduceToNat, Int.zero_add, Int.add_zero, Int.sub_zero, Int.lt_irrefl, decide_true, decide_false, mo_g0, mo_s0, mo_g1, mo_s1, mo_g2, mo_s2, mo_g3, mo_s3, mo_g4, mo_s4, mo_g5, mo_s5, mo_g6, mo_s6, mo_g7, mo_g8, mo_g9, mo_g10, mo_g11, mo_g12, mo_g13, mo_g14, mo_g15, mo_g16, mo_g17, mo_s17, mo_g18, mo_s18, mo_g19, mo_g20, mo_g21, mo_g22, mo_g23, mo_g24, mo_g25, mo_g26, mo_s26, mo_g27, mo_s27, mo_g28, mo_s28, mo_g29, mo_g30, mo_s30, mo_g31, mo_g32, mo_g33, mo_s33, mo_g34, mo_s34, mo_g35, mo_s35, mo_g36, mo_s36, mh_2, mh_m, mh_setm, mh_a0, mh_t0, mh_a1, mh_t1, mh_a2, mh_t2, mh_a3, mh_t3, mh_a4, mh_t4, mh_a5, mh_t5, mh_a6, mh_t6, mh_a7, mh_t7, mh_a8, mh_t8, mh_a9, mh_t9, mh_a10, mh_t10, mh_a11, mh_t11, mh_a12, mh_t12, mh_a13, mh_t13, mh_a14, mh_t14, mh_a15, mh_t15, mh_a16, mh_t16, mh_a17, mh_t17, mh_a18, mh_t18, mh_a19, mh_t19, ia_len, ia_get, ia_set, up_at, iI_add, iI_sub, iI_mul, iI_neg, iI_lit, iI_eq, iI_lt, iI_le, iI_nat, na_bI, fi_bI, na_b01, fi_b01, hl, hne, hne2, hset_hnew, hnew_at]
  exact ⟨c1, c2, by simp, hb⟩
theorem fe_end {k : Nat} {z z1 : Value} (hi : ls[i]? = some (.ref it)) (hit : h.1 it = some (20, [.int (iI k), z, .int mc, .ref l])) (hl : h.1 l = some (15, [.int mc, z1, .int (iI k)])) (hk : k < 1000) (hb : EX ls [] h) : o_aload i (o_callV [20] 1 (wJ9_hasNext E) Xo (o_ifeq EX BODY)) ls [] h := by
  unfold o_aload
  rw [hi]
  simp (disch := omega) only [wJ9_hasNext, bJ9_hasNext_0, bJ9_hasNext_18, bJ9_hasNext_19, e_iload0, e_aload0r, e_aload0n, e_istore0, e_astore0r, e_astore0n, e_iinc0, e_iload1, e_aload1r, e_aload1n, e_istore1, e_astore1r, e_astore1n, e_iinc1, e_iload2, e_aload2r, e_aload2n, e_istore2, e_astore2r, e_astore2n, e_iinc2, e_iload3, e_aload3r, e_aload3n, e_istore3, e_astore3r, e_astore3n, e_iinc3, e_iload4, e_aload4r, e_aload4n, e_istore4, e_astore4r, e_astore4n, e_iinc4, e_iload5, e_aload5r, e_aload5n, e_istore5, e_astore5r, e_astore5n, e_iinc5, e_iload6, e_aload6r, e_aload6n, e_istore6, e_astore6r, e_astore6n, e_iinc6, e_iload7, e_aload7r, e_aload7n, e_istore7, e_astore7r, e_astore7n, e_iinc7, e_iload8, e_aload8r, e_aload8n, e_istore8, e_astore8r, e_astore8n, e_iinc8, e_iload9, e_aload9r, e_aload9n, e_istore9, e_astore9r, e_astore9n, e_iinc9, e_dload4, e_dstore4, e_dload6, e_dstore6, e_push, e_iadd, e_isub, e_imul, e_iand, e_ior, e_ixor, e_ishl, e_ishr, e_iushr, e_idiv, e_irem, e_ineg, e_i2c, e_i2b, e_i2d, e_i2f, e_ddiv, e_fdiv, e_f2d, e_dcmp, e_dup_i, e_pop_i, e_dup_x1_ii, e_dup2_ii, e_dup_x1_ir, e_dup2_ir, e_dup_x1_in, e_dup2_in, e_dup_r, e_pop_r, e_dup_x1_ri, e_dup2_ri, e_dup_x1_rr, e_dup2_rr, e_dup_x1_rn, e_dup2_rn, e_dup_n, e_pop_n, e_dup_x1_ni, e_dup2_ni, e_dup_x1_nr, e_dup2_nr, e_dup_x1_nn, e_dup2_nn, e_ifeq, e_ifne, e_iflt, e_ifge, e_ifgt, e_ifle, e_icmpeq, e_icmpne, e_icmplt, e_icmpge, e_icmpgt, e_icmple, e_ifnull_n, e_ifnull_r, e_ifnonnull_n, e_ifnonnull_r, e_acmpeq_rr, e_acmpeq_rn, e_acmpeq_nr, e_acmpeq_nn, e_acmpne_rr, e_acmpne_rn, e_acmpne_nr, e_acmpne_nn, e_getf, e_putf, e_alen, e_ald, e_slen, e_sld, e_ast, e_aastr, e_aastn, e_new, e_newa, e_cast_n, e_cast_r, e_inst_n, e_inst_r, e_objInit, e_ireturn, e_return, e_areturn_r, e_areturn_n, e_dreturn, e_freturn, e_athrow, e_xout, e_xcatch, e_call0, e_call1, e_callI1, e_callV1, e_vsel1, e_call2, e_callI2, e_callV2, e_vsel2, e_call3, e_callI3, e_callV3, e_vsel3, e_call4, e_callI4, e_callV4, e_vsel4, e_call5, e_callI5, e_callV5, e_vsel5, e_call6, e_callI6, e_callV6, e_vsel6, e_call7, e_callI7, e_callV7, e_vsel7, e_callLam, e_cp0, e_cp1, e_cpx, e_imax, e_imin, e_sw, e_sw0, e_sw1, ok_nil, ok_i, ok_r, ok_n, cs_nil, cs_i, cs_r, cs_n, cs_d, cs_f, cat_i, cat_r, cat_n, na_i, na_ar, na_an, na_rr, na_rn, na_z0, na_z1, na_b0, na_b1, fi_i, fi_ar, fi_an, fi_rr, fi_rn, fi_z0, fi_z1, fi_b0, fi_b1, ik_0_0, ik_1_1, ik_10_10, ik_10_11_10, ik_10_11_11, ik_100_100, ik_100_300, ik_101_102_101, ik_101_102_102, ik_101_102_302, ik_102_102, ik_102_302, ik_103_104_105_106_107_103, ik_103_104_105_106_107_303, ik_103_104_105_106_107_104, ik_103_104_105_106_107_105, ik_103_104_105_106_107_106, ik_103_104_105_106_107_107, ik_103_104_105_106_107_307, ik_107_107, ik_107_307, ik_11_11, ik_12_12, ik_14_14, ik_14_15_14, ik_14_15_15, ik_15_15, ik_16_16, ik_17_17, ik_18_18, ik_19_19, ik_19_219, ik_2_2, ik_2_4_2, ik_2_4_4, ik_20_20, ik_21_21, ik_21_221, ik_21_22_21, ik_21_22_221, ik_21_22_22, ik_21_22_222, ik_3_3, ik_4_4, ik_5_5, ik_6_6, ik_6_9_13_6, ik_6_9_13_9, ik_6_9_13_13, ik_7_7, ik_8_8, ik_9_9, jk__9, jk_10_2, jk_10_4, jk_10_11, jk_10_18, jk_10_19, jk_10_21, jk_10_22, jk_10_219, jk_10_221, jk_10_222, jk_11_10, jk_14_2, jk_14_4, jk_14_10, jk_14_11, jk_14_18, jk_14_19, jk_14_21, jk_14_22, jk_14_219, jk_14_221, jk_14_222, jk_15_2, jk_15_4, jk_15_10, jk_15_11, jk_15_18, jk_15_19, jk_15_21, jk_15_22, jk_15_219, jk_15_221, jk_15_222, jk_18_2, jk_18_4, jk_18_10, jk_18_11, jk_18_19, jk_18_21, jk_18_22, jk_18_219, jk_18_221, jk_18_222, jk_2_4, jk_2_10, jk_2_11, jk_2_18, jk_2_19, jk_2_21, jk_2_22, jk_2_219, jk_2_221, jk_2_222, jk_21_2, jk_21_4, jk_21_10, jk_21_11, jk_21_18, jk_21_19, jk_21_22, jk_21_219, jk_21_222, jk_6_9, jk_9_6, kd_100, kd_101, kd_102, kd_103, kd_104, kd_105, kd_106, kd_107, kd_300, kd_302, kd_303, kd_307, List.getElem?_cons_succ, List.getElem?_cons_zero, List.getElem?_nil, List.set_cons_zero, List.set_cons_succ, true_and, and_true, and_self, if_true, if_false, not_false_iff, not_true, ↓reduceIte, reduceCtorEq, Nat.reduceLT, Nat.reduceLeDiff, Nat.reduceAdd, Nat.reduceSub, Nat.reduceEqDiff, Nat.reduceMod, hset_2, hnew_at, hnew_2, Nat.add_zero, Nat.zero_add, Nat.le_refl, and_false, false_and, Option.some.injEq, Prod.mk.injEq, Value.ref.injEq, bI_F, bI_T, bI_z, lt_t, lt_f, le_t, le_f, ieq_f, ieq_t, nlt_t, neq_f, ast_i, bI_or, bI_and, Int.toNat_natCast, Int.cast_ofNat_Int, not_false_eq_true, not_true_eq_false, ite_not, Int.reduceNeg, Int.reduceAdd, Int.reduceSub, Int.reduceMul, Int.reduceLT, Int.reduceLE, Int.reduceEq, Int.reduceToNat, Int.zero_add, Int.add_zero, Int.sub_zero, Int.lt_irrefl, decide_true, decide_false, mo_g0, mo_s0, mo_g1, mo_s1, mo_g2, mo_s2, mo_g3, mo_s3, mo_g4, mo_s4, mo_g5, mo_s5, mo_g6, mo_s6, mo_g7, mo_g8, mo_g9, mo_g10, mo_g11, mo_g12, mo_g13, mo_g14, mo_g15, mo_g16, mo_g17, mo_s17, mo_g18, mo_s18, mo_g19, mo_g20, mo_g21, mo_g22, mo_g23, mo_g24, mo_g25, mo_g26, mo_s26, mo_g27, mo_s27, mo_g28, mo_s28, mo_g29, mo_g30, mo_s30, mo_g31, mo_g32, mo_g33, mo_s33, mo_g34, mo_s34, mo_g35, mo_s35, mo_g36, mo_s36, mh_2, mh_m, mh_setm, mh_a0, mh_t0, mh_a1, mh_t1, mh_a2, mh_t2, mh_a3, mh_t3, mh_a4, mh_t4, mh_a5, mh_t5, mh_a6, mh_t6, mh_a7, mh_t7, mh_a8, mh_t8, mh_a9, mh_t9, mh_a10, mh_t10, mh_a11, mh_t11, mh_a12, mh_t12, mh_a13, mh_t13, mh_a14, mh_t14, mh_a15, mh_t15, mh_a16, mh_t16, mh_a17, mh_t17, mh_a18, mh_t18, mh_a19, mh_t19, ia_len, ia_get, ia_set, up_at, iI_add, iI_sub, iI_mul, iI_neg, iI_lit, iI_eq, iI_lt, iI_le, iI_nat, na_bI, fi_bI, na_b01, fi_b01, hl, hit]
  exact hb
theorem fe_next {k a : Nat} {x : AR} {z : Value} (hi : ls[i]? = some (.ref it)) (hit : h.1 it = some (20, [.int (iI k), z, .int mc, .ref l])) (hl : cLi h l mc e n f L) (hx : L[k]? = some x) (ha : f k = .ref a) (hah : h.1 a = some (aK x, aL x)) (hb : BODY (ls.set j (.ref a)) [] (hset h it (20, [.int (iI (k + 1 : Nat)), .int (iI k), .int mc, .ref l]))) : o_aload i (o_callV [20] 1 (wJ9_hasNext E) Xo (o_ifeq EX (o_aload i (o_callV [20] 1 (wJ9_next E) Xo (o_cast [10, 11] (o_astore j BODY)))))) ls [] h := by
  obtain ⟨h1, h2, h3, h4, h5⟩ := hl
  have hkL : k < L.length := by
    rcases Nat.lt_or_ge k L.length with q | q
    · exact q
    · rw [List.getElem?_eq_none q] at hx; cases hx
  have n1 : ¬ it = l := ne_kind hit h1 (by decide)
  have n2 : ¬ l = it := fun q => n1 q.symm
  have n3 : ¬ e = it := fun q => ne_kind hit h2 (by decide) q.symm
  have n4 : ¬ a = it := by
    rintro rfl
    rw [hit] at hah
    have := Option.some.inj hah
    have h9 := congrArg Prod.fst this
    simp only at h9
    unfold aK at h9
    split at h9 <;> cases h9
  unfold o_aload
  rw [hi]
  simp (disch := omega) only [wJ9_hasNext, bJ9_hasNext_0, bJ9_hasNext_18, bJ9_hasNext_19, e_iload0, e_aload0r, e_aload0n, e_istore0, e_astore0r, e_astore0n, e_iinc0, e_iload1, e_aload1r, e_aload1n, e_istore1, e_astore1r, e_astore1n, e_iinc1, e_iload2, e_aload2r, e_aload2n, e_istore2, e_astore2r, e_astore2n, e_iinc2, e_iload3, e_aload3r, e_aload3n, e_istore3, e_astore3r, e_astore3n, e_iinc3, e_iload4, e_aload4r, e_aload4n, e_istore4, e_astore4r, e_astore4n, e_iinc4, e_iload5, e_aload5r, e_aload5n, e_istore5, e_astore5r, e_astore5n, e_iinc5, e_iload6, e_aload6r, e_aload6n, e_istore6, e_astore6r, e_astore6n, e_iinc6, e_iload7, e_aload7r, e_aload7n, e_istore7, e_astore7r, e_astore7n, e_iinc7, e_iload8, e_aload8r, e_aload8n, e_istore8, e_astore8r, e_astore8n, e_iinc8, e_iload9, e_aload9r, e_aload9n, e_istore9, e_astore9r, e_astore9n, e_iinc9, e_dload4, e_dstore4, e_dload6, e_dstore6, e_push, e_iadd, e_isub, e_imul, e_iand, e_ior, e_ixor, e_ishl, e_ishr, e_iushr, e_idiv, e_irem, e_ineg, e_i2c, e_i2b, e_i2d, e_i2f, e_ddiv, e_fdiv, e_f2d, e_dcmp, e_dup_i, e_pop_i, e_dup_x1_ii, e_dup2_ii, e_dup_x1_ir, e_dup2_ir, e_dup_x1_in, e_dup2_in, e_dup_r, e_pop_r, e_dup_x1_ri, e_dup2_ri, e_dup_x1_rr, e_dup2_rr, e_dup_x1_rn, e_dup2_rn, e_dup_n, e_pop_n, e_dup_x1_ni, e_dup2_ni, e_dup_x1_nr, e_dup2_nr, e_dup_x1_nn, e_dup2_nn, e_ifeq, e_ifne, e_iflt, e_ifge, e_ifgt, e_ifle, e_icmpeq, e_icmpne, e_icmplt, e_icmpge, e_icmpgt, e_icmple, e_ifnull_n, e_ifnull_r, e_ifnonnull_n, e_ifnonnull_r, e_acmpeq_rr, e_acmpeq_rn, e_acmpeq_nr, e_acmpeq_nn, e_acmpne_rr, e_acmpne_rn, e_acmpne_nr, e_acmpne_nn, e_getf, e_putf, e_alen, e_ald, e_slen, e_sld, e_ast, e_aastr, e_aastn, e_new, e_newa, e_cast_n, e_cast_r, e_inst_n, e_inst_r, e_objInit, e_ireturn, e_return, e_areturn_r, e_areturn_n, e_dreturn, e_freturn, e_athrow, e_xout, e_xcatch, e_call0, e_call1, e_callI1, e_callV1, e_vsel1, e_call2, e_callI2, e_callV2, e_vsel2, e_call3, e_callI3, e_callV3, e_vsel3, e_call4, e_callI4, e_callV4, e_vsel4, e_call5, e_callI5, e_callV5, e_vsel5, e_call6, e_callI6, e_callV6, e_vsel6, e_call7, e_callI7, e_callV7, e_vsel7, e_callLam, e_cp0, e_cp1, e_cpx, e_imax, e_imin, e_sw, e_sw0, e_sw1, ok_nil, ok_i, ok_r, ok_n, cs_nil, cs_i, cs_r, cs_n, cs_d, cs_f, cat_i, cat_r, cat_n, na_i, na_ar, na_an, na_rr, na_rn, na_z0, na_z1, na_b0, na_b1, fi_i, fi_ar, fi_an, fi_rr, fi_rn, fi_z0, fi_z1, fi_b0, fi_b1, ik_0_0, ik_1_1, ik_10_10, ik_10_11_10, ik_10_11_11, ik_100_100, ik_100_300, ik_101_102_101, ik_101_102_102, ik_101_102_302, ik_102_102, ik_102_302, ik_103_104_105_106_107_103, ik_103_104_105_106_107_303, ik_103_104_105_106_107_104, ik_103_104_105_106_107_105, ik_103_104_105_106_107_106, ik_103_104_105_106_107_107, ik_103_104_105_106_107_307, ik_107_107, ik_107_307, ik_11_11, ik_12_12, ik_14_14, ik_14_15_14, ik_14_15_15, ik_15_15, ik_16_16, ik_17_17, ik_18_18, ik_19_19, ik_19_219, ik_2_2, ik_2_4_2, ik_2_4_4, ik_20_20, ik_21_21, ik_21_221, ik_21_22_21, ik_21_22_221, ik_21_22_22, ik_21_22_222, ik_3_3, ik_4_4, ik_5_5, ik_6_6, ik_6_9_13_6, ik_6_9_13_9, ik_6_9_13_13, ik_7_7, ik_8_8, ik_9_9, jk__9, jk_10_2, jk_10_4, jk_10_11, jk_10_18, jk_10_19, jk_10_21, jk_10_22, jk_10_219, jk_10_221, jk_10_222, jk_11_10, jk_14_2, jk_14_4, jk_14_10, jk_14_11, jk_14_18, jk_14_19, jk_14_21, jk_14_22, jk_14_219, jk_14_221, jk_14_222, jk_15_2, jk_15_4, jk_15_10, jk_15_11, jk_15_18, jk_15_19, jk_15_21, jk_15_22, jk_15_219, jk_15_221, jk_15_222, jk_18_2, jk_18_4, jk_18_10, jk_18_11, jk_18_19, jk_18_21, jk_18_22, jk_18_219, jk_18_221, jk_18_222, jk_2_4, jk_2_10, jk_2_11, jk_2_18, jk_2_19, jk_2_21, jk_2_22, jk_2_219, jk_2_221, jk_2_222, jk_21_2, jk_21_4, jk_21_10, jk_21_11, jk_21_18, jk_21_19, jk_21_22, jk_21_219, jk_21_222, jk_6_9, jk_9_6, kd_100, kd_101, kd_102, kd_103, kd_104, kd_105, kd_106, kd_107, kd_300, kd_302, kd_303, kd_307, List.getElem?_cons_succ, List.getElem?_cons_zero, List.getElem?_nil, List.set_cons_zero, List.set_cons_succ, true_and, and_true, and_self, if_true, if_false, not_false_iff, not_true, ↓reduceIte, reduceCtorEq, Nat.reduceLT, Nat.reduceLeDiff, Nat.reduceAdd, Nat.reduceSub, Nat.reduceEqDiff, Nat.reduceMod, hset_2, hnew_at, hnew_2, Nat.add_zero, Nat.zero_add, Nat.le_refl, and_false, false_and, Option.some.injEq, Prod.mk.injEq, Value.ref.injEq, bI_F, bI_T, bI_z, lt_t, lt_f, le_t, le_f, ieq_f, ieq_t, nlt_t, neq_f, ast_i, bI_or, bI_and, Int.toNat_natCast, Int.cast_ofNat_Int, not_false_eq_true, not_true_eq_false, ite_not, Int.reduceNeg, Int.reduceAdd, Int.reduceSub, Int.reduceMul, Int.reduceLT, Int.reduceLE, Int.reduceEq, Int.reduceToNat, Int.zero_add, Int.add_zero, Int.sub_zero, Int.lt_irrefl, decide_true, decide_false, mo_g0, mo_s0, mo_g1, mo_s1, mo_g2, mo_s2, mo_g3, mo_s3, mo_g4, mo_s4, mo_g5, mo_s5, mo_g6, mo_s6, mo_g7, mo_g8, mo_g9, mo_g10, mo_g11, mo_g12, mo_g13, mo_g14, mo_g15, mo_g16, mo_g17, mo_s17, mo_g18, mo_s18, mo_g19, mo_g20, mo_g21, mo_g22, mo_g23, mo_g24, mo_g25, mo_g26, mo_s26, mo_g27, mo_s27, mo_g28, mo_s28, mo_g29, mo_g30, mo_s30, mo_g31, mo_g32, mo_g33, mo_s33, mo_g34, mo_s34, mo_g35, mo_s35, mo_g36, mo_s36, mh_2, mh_m, mh_setm, mh_a0, mh_t0, mh_a1, mh_t1, mh_a2, mh_t2, mh_a3, mh_t3, mh_a4, mh_t4, mh_a5, mh_t5, mh_a6, mh_t6, mh_a7, mh_t7, mh_a8, mh_t8, mh_a9, mh_t9, mh_a10, mh_t10, mh_a11, mh_t11, mh_a12, mh_t12, mh_a13, mh_t13, mh_a14, mh_t14, mh_a15, mh_t15, mh_a16, mh_t16, mh_a17, mh_t17, mh_a18, mh_t18, mh_a19, mh_t19, ia_len, ia_get, ia_set, up_at, iI_add, iI_sub, iI_mul, iI_neg, iI_lit, iI_eq, iI_lt, iI_le, iI_nat, na_bI, fi_bI, na_b01, fi_b01, h1, hit]
  rw [hi]
  simp (disch := omega) only [wJ9_next, bJ9_next_0, bJ9_next_28, bJ9_next_50, wJ9_checkForComodification, bJ9_checkForComodification_0, bJ9_checkForComodification_22, e_iload0, e_aload0r, e_aload0n, e_istore0, e_astore0r, e_astore0n, e_iinc0, e_iload1, e_aload1r, e_aload1n, e_istore1, e_astore1r, e_astore1n, e_iinc1, e_iload2, e_aload2r, e_aload2n, e_istore2, e_astore2r, e_astore2n, e_iinc2, e_iload3, e_aload3r, e_aload3n, e_istore3, e_astore3r, e_astore3n, e_iinc3, e_iload4, e_aload4r, e_aload4n, e_istore4, e_astore4r, e_astore4n, e_iinc4, e_iload5, e_aload5r, e_aload5n, e_istore5, e_astore5r, e_astore5n, e_iinc5, e_iload6, e_aload6r, e_aload6n, e_istore6, e_astore6r, e_astore6n, e_iinc6, e_iload7, e_aload7r, e_aload7n, e_istore7, e_astore7r, e_astore7n, e_iinc7, e_iload8, e_aload8r, e_aload8n, e_istore8, e_astore8r, e_astore8n, e_iinc8, e_iload9, e_aload9r, e_aload9n, e_istore9, e_astore9r, e_astore9n, e_iinc9, e_dload4, e_dstore4, e_dload6, e_dstore6, e_push, e_iadd, e_isub, e_imul, e_iand, e_ior, e_ixor, e_ishl, e_ishr, e_iushr, e_idiv, e_irem, e_ineg, e_i2c, e_i2b, e_i2d, e_i2f, e_ddiv, e_fdiv, e_f2d, e_dcmp, e_dup_i, e_pop_i, e_dup_x1_ii, e_dup2_ii, e_dup_x1_ir, e_dup2_ir, e_dup_x1_in, e_dup2_in, e_dup_r, e_pop_r, e_dup_x1_ri, e_dup2_ri, e_dup_x1_rr, e_dup2_rr, e_dup_x1_rn, e_dup2_rn, e_dup_n, e_pop_n, e_dup_x1_ni, e_dup2_ni, e_dup_x1_nr, e_dup2_nr, e_dup_x1_nn, e_dup2_nn, e_ifeq, e_ifne, e_iflt, e_ifge, e_ifgt, e_ifle, e_icmpeq, e_icmpne, e_icmplt, e_icmpge, e_icmpgt, e_icmple, e_ifnull_n, e_ifnull_r, e_ifnonnull_n, e_ifnonnull_r, e_acmpeq_rr, e_acmpeq_rn, e_acmpeq_nr, e_acmpeq_nn, e_acmpne_rr, e_acmpne_rn, e_acmpne_nr, e_acmpne_nn, e_getf, e_putf, e_alen, e_ald, e_slen, e_sld, e_ast, e_aastr, e_aastn, e_new, e_newa, e_cast_n, e_cast_r, e_inst_n, e_inst_r, e_objInit, e_ireturn, e_return, e_areturn_r, e_areturn_n, e_dreturn, e_freturn, e_athrow, e_xout, e_xcatch, e_call0, e_call1, e_callI1, e_callV1, e_vsel1, e_call2, e_callI2, e_callV2, e_vsel2, e_call3, e_callI3, e_callV3, e_vsel3, e_call4, e_callI4, e_callV4, e_vsel4, e_call5, e_callI5, e_callV5, e_vsel5, e_call6, e_callI6, e_callV6, e_vsel6, e_call7, e_callI7, e_callV7, e_vsel7, e_callLam, e_cp0, e_cp1, e_cpx, e_imax, e_imin, e_sw, e_sw0, e_sw1, ok_nil, ok_i, ok_r, ok_n, cs_nil, cs_i, cs_r, cs_n, cs_d, cs_f, cat_i, cat_r, cat_n, na_i, na_ar, na_an, na_rr, na_rn, na_z0, na_z1, na_b0, na_b1, fi_i, fi_ar, fi_an, fi_rr, fi_rn, fi_z0, fi_z1, fi_b0, fi_b1, ik_0_0, ik_1_1, ik_10_10, ik_10_11_10, ik_10_11_11, ik_100_100, ik_100_300, ik_101_102_101, ik_101_102_102, ik_101_102_302, ik_102_102, ik_102_302, ik_103_104_105_106_107_103, ik_103_104_105_106_107_303, ik_103_104_105_106_107_104, ik_103_104_105_106_107_105, ik_103_104_105_106_107_106, ik_103_104_105_106_107_107, ik_103_104_105_106_107_307, ik_107_107, ik_107_307, ik_11_11, ik_12_12, ik_14_14, ik_14_15_14, ik_14_15_15, ik_15_15, ik_16_16, ik_17_17, ik_18_18, ik_19_19, ik_19_219, ik_2_2, ik_2_4_2, ik_2_4_4, ik_20_20, ik_21_21, ik_21_221, ik_21_22_21, ik_21_22_221, ik_21_22_22, ik_21_22_222, ik_3_3, ik_4_4, ik_5_5, ik_6_6, ik_6_9_13_6, ik_6_9_13_9, ik_6_9_13_13, ik_7_7, ik_8_8, ik_9_9, jk__9, jk_10_2, jk_10_4, jk_10_11, jk_10_18, jk_10_19, jk_10_21, jk_10_22, jk_10_219, jk_10_221, jk_10_222, jk_11_10, jk_14_2, jk_14_4, jk_14_10, jk_14_11, jk_14_18, jk_14_19, jk_14_21, jk_14_22, jk_14_219, jk_14_221, jk_14_222, jk_15_2, jk_15_4, jk_15_10, jk_15_11, jk_15_18, jk_15_19, jk_15_21, jk_15_22, jk_15_219, jk_15_221, jk_15_222, jk_18_2, jk_18_4, jk_18_10, jk_18_11, jk_18_19, jk_18_21, jk_18_22, jk_18_219, jk_18_221, jk_18_222, jk_2_4, jk_2_10, jk_2_11, jk_2_18, jk_2_19, jk_2_21, jk_2_22, jk_2_219, jk_2_221, jk_2_222, jk_21_2, jk_21_4, jk_21_10, jk_21_11, jk_21_18, jk_21_19, jk_21_22, jk_21_219, jk_21_222, jk_6_9, jk_9_6, kd_100, kd_101, kd_102, kd_103, kd_104, kd_105, kd_106, kd_107, kd_300, kd_302, kd_303, kd_307, List.getElem?_cons_succ, List.getElem?_cons_zero, List.getElem?_nil, List.set_cons_zero, List.set_cons_succ, true_and, and_true, and_self, if_true, if_false, not_false_iff, not_true, ↓reduceIte, reduceCtorEq, Nat.reduceLT, Nat.reduceLeDiff, Nat.reduceAdd, Nat.reduceSub, Nat.reduceEqDiff, Nat.reduceMod, hset_2, hnew_at, hnew_2, Nat.add_zero, Nat.zero_add, Nat.le_refl, and_false, false_and, Option.some.injEq, Prod.mk.injEq, Value.ref.injEq, bI_F, bI_T, bI_z, lt_t, lt_f, le_t, le_f, ieq_f, ieq_t, nlt_t, neq_f, ast_i, bI_or, bI_and, Int.toNat_natCast, Int.cast_ofNat_Int, not_false_eq_true, not_true_eq_false, ite_not, Int.reduceNeg, Int.reduceAdd, Int.reduceSub, Int.reduceMul, Int.reduceLT, Int.reduceLE, Int.reduceEq, Int.reduceToNat, Int.zero_add, Int.add_zero, Int.sub_zero, Int.lt_irrefl, decide_true, decide_false, mo_g0, mo_s0, mo_g1, mo_s1, mo_g2, mo_s2, mo_g3, mo_s3, mo_g4, mo_s4, mo_g5, mo_s5, mo_g6, mo_s6, mo_g7, mo_g8, mo_g9, mo_g10, mo_g11, mo_g12, mo_g13, mo_g14, mo_g15, mo_g16, mo_g17, mo_s17, mo_g18, mo_s18, mo_g19, mo_g20, mo_g21, mo_g22, mo_g23, mo_g24, mo_g25, mo_g26, mo_s26, mo_g27, mo_s27, mo_g28, mo_s28, mo_g29, mo_g30, mo_s30, mo_g31, mo_g32, mo_g33, mo_s33, mo_g34, mo_s34, mo_g35, mo_s35, mo_g36, mo_s36, mh_2, mh_m, mh_setm, mh_a0, mh_t0, mh_a1, mh_t1, mh_a2, mh_t2, mh_a3, mh_t3, mh_a4, mh_t4, mh_a5, mh_t5, mh_a6, mh_t6, mh_a7, mh_t7, mh_a8, mh_t8, mh_a9, mh_t9, mh_a10, mh_t10, mh_a11, mh_t11, mh_a12, mh_t12, mh_a13, mh_t13, mh_a14, mh_t14, mh_a15, mh_t15, mh_a16, mh_t16, mh_a17, mh_t17, mh_a18, mh_t18, mh_a19, mh_t19, ia_len, ia_get, ia_set, up_at, iI_add, iI_sub, iI_mul, iI_neg, iI_lit, iI_eq, iI_lt, iI_le, iI_nat, na_bI, fi_bI, na_b01, fi_b01, h1, h2, hit, hset_at, n1, n2, n3, n4, ra_get, ra_len, iI_len, ha, hset_hset, hah, aK_1]
  simp only [o_astore]
  exact hb
end EACH
