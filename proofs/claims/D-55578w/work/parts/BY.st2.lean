/-! THE START (2): the abstract heap -/
set_option maxRecDepth 100000
theorem fc_ne {vm : Vm} {n1 n2 : String} {c1 c2 : ClassId} (h1 : vm.findClass n1 = some c1) (h2 : vm.findClass n2 = some c2) (hn : n1 ≠ n2) : c1 ≠ c2 := by
  intro e
  subst e
  obtain ⟨k1, a1, b1⟩ := Vm.findClass_spec h1
  obtain ⟨k2, a2, b2⟩ := Vm.findClass_spec h2
  have e : k1 = k2 := Option.some.inj (a1.symm.trans a2)
  rw [← e] at b2
  exact hn (b1.symm.trans b2)
def kOf (D : DE) (c : ClassId) : Option Nat := if c = D.1 22 then some 222 else if c = D.1 21 then some 221 else if c = D.1 19 then some 219 else if c = D.1 107 then some 307 else if c = D.1 102 then some 302 else none
def nOf (k : Nat) : Nat := match ckl[kd k]? with | some r => r.2.2 | none => 0
def vOf (D : DE) (k : Nat) (z : Cell) : List Value := if kd k < 99 then (List.range (nOf k)).map (fun j => (z.slots[D.2 (kd k) j]?).getD .null) else z.slots.toList
def gOf (D : DE) (k : Nat) (z : Cell) : Prop := z.vm ≠ .unknown ∧ z.vm.isStatics = false ∧ (kd k < 99 → ∀ j, j < nOf k → ∃ v, z.slots[D.2 (kd k) j]? = some v)
noncomputable def sg0 (D : DE) (s : State) (a : Nat) : Option (Nat × List Value) := match s.heap[a]? with
  | some z => (match kOf D z.cls with | some k => @ite _ (gOf D k z) (Classical.propDecidable _) (some (k, vOf D k z)) none | none => none)
  | none => none
/-- the abstract heap at the start -/
noncomputable def hp0 (D : DE) (s : State) : HS := (sg0 D s, s.heap.size, 1200048, 5501818)
theorem kOf_spec {D : DE} {c : ClassId} {k : Nat} (h : kOf D c = some k) : c = D.1 (kd k) ∧ 200 ≤ k ∧ (kd k < 99 → ∃ r, ckl[kd k]? = some r) := by
  unfold kOf at h
  split at h
  · next e => cases h; exact ⟨e, by decide, fun _ => ⟨_, rfl⟩⟩
  · split at h
    · next e => cases h; exact ⟨e, by decide, fun _ => ⟨_, rfl⟩⟩
    · split at h
      · next e => cases h; exact ⟨e, by decide, fun _ => ⟨_, rfl⟩⟩
      · split at h
        · next e => cases h; exact ⟨e, by decide, fun q => absurd q (by decide)⟩
        · split at h
          · next e => cases h; exact ⟨e, by decide, fun q => absurd q (by decide)⟩
          · cases h
theorem sg0_at {D : DE} {s : State} {a k : Nat} {z : Cell} (hz : s.heap[a]? = some z) (hk : kOf D z.cls = some k) (hg : gOf D k z) : sg0 D s a = some (k, vOf D k z) := by
  unfold sg0
  simp only [hz, hk]
  exact if_pos hg
theorem sg0_ok {D : DE} {s : State} {a : Nat} {o : Nat × List Value} (h : sg0 D s a = some o) : cellOk D s.heap.size a o s.heap := by
  unfold sg0 at h
  split at h
  · next z hz =>
    split at h
    · next k hk =>
      split at h
      · next hg =>
        cases h
        obtain ⟨e1, e2, e4⟩ := kOf_spec hk
        obtain ⟨g1, g2, g3⟩ := hg
        refine ⟨z, hz, Or.inl e1, g1, g2, fun q => absurd q (by show ¬ k < 200; omega), fun q => ?_, fun q => ?_⟩
        · have q : kd k < 99 := q
          obtain ⟨r, hr⟩ := e4 q
          have en : nOf k = r.2.2 := by unfold nOf; rw [hr]
          refine ⟨r, hr, ?_, fun j v hv => ?_⟩
          · show (vOf D k z).length = _
            unfold vOf
            rw [if_pos q, List.length_map, List.length_range]
            exact en
          · have hv : (vOf D k z)[j]? = some v := hv
            unfold vOf at hv
            rw [if_pos q, List.getElem?_map] at hv
            by_cases hj : j < nOf k
            · rw [List.getElem?_range hj] at hv
              obtain ⟨w, hw⟩ := g3 q j hj
              have hv : some ((z.slots[D.2 (kd k) j]?).getD .null) = some v := hv
              rw [hw] at hv
              show z.slots[D.2 (kd k) j]? = some v
              rw [hw]
              exact hv
            · rw [List.getElem?_eq_none (by simpa using hj)] at hv
              cases hv
        · have q : 99 ≤ kd k := q
          have e : vOf D k z = z.slots.toList := if_neg (by omega)
          show z.slots = (vOf D k z).toArray
          simp [e]
      · cases h
    · cases h
  · cases h
theorem rel0 {D : DE} {s : State} : RelH D s (hp0 D s) s.heap := by
  have e : slotSum s.heap.size s.heap = 0 := by
    unfold slotSum
    rw [List.drop_of_length_le (by simp)]
    rfl
  refine ⟨rfl, Nat.le_refl _, rfl, ?_, fun q _ => rfl, fun a o h => sg0_ok h⟩
  show slotSum s.heap.size s.heap + 5501818 = 5501818
  omega
theorem wf0 {D : DE} {s : State} : WF (hp0 D s) := by
  intro a ha
  have e : s.heap[a]? = none := Array.getElem?_eq_none ha
  show sg0 D s a = none
  unfold sg0
  simp only [e]
section ST2
variable {D : DE} {s : State} {b : Nat}
theorem f_22 (K : Kn D s) : s.vm.findClass "ChantRules$Sound$1" = some (D.1 22) := (K.1 22 _ rfl).1
theorem f_21 (K : Kn D s) : s.vm.findClass "ChantRules$Sound" = some (D.1 21) := (K.1 21 _ rfl).1
theorem f_19 (K : Kn D s) : s.vm.findClass "java/lang/String" = some (D.1 19) := (K.1 19 _ rfl).1
theorem f_107 (K : Kn D s) : s.vm.findClass "[LChantRules$Sound;" = some (D.1 107) := by
  obtain ⟨kA, comp, -, -, -, h4⟩ := (K.2.2.1 7 _ rfl).2
  exact h4
theorem f_102 (K : Kn D s) : s.vm.findClass "[B" = some (D.1 102) := (K.2.2.1 2 _ rfl).2
theorem k_22 : kOf D (D.1 22) = some 222 := if_pos rfl
theorem k_21 (K : Kn D s) : kOf D (D.1 21) = some 221 := by
  unfold kOf
  rw [if_neg (fc_ne (f_21 K) (f_22 K) (by decide +kernel)), if_pos rfl]
theorem k_19 (K : Kn D s) : kOf D (D.1 19) = some 219 := by
  unfold kOf
  rw [if_neg (fc_ne (f_19 K) (f_22 K) (by decide +kernel)), if_neg (fc_ne (f_19 K) (f_21 K) (by decide +kernel)), if_pos rfl]
theorem k_107 (K : Kn D s) : kOf D (D.1 107) = some 307 := by
  unfold kOf
  rw [if_neg (fc_ne (f_107 K) (f_22 K) (by decide +kernel)), if_neg (fc_ne (f_107 K) (f_21 K) (by decide +kernel)), if_neg (fc_ne (f_107 K) (f_19 K) (by decide +kernel)), if_pos rfl]
theorem k_102 (K : Kn D s) : kOf D (D.1 102) = some 302 := by
  unfold kOf
  rw [if_neg (fc_ne (f_102 K) (f_22 K) (by decide +kernel)), if_neg (fc_ne (f_102 K) (f_21 K) (by decide +kernel)), if_neg (fc_ne (f_102 K) (f_19 K) (by decide +kernel)), if_neg (fc_ne (f_102 K) (f_107 K) (by decide +kernel)), if_pos rfl]
theorem at_ar {a k : Nat} {z : Cell} (hz : s.heap[a]? = some z) (hk : kOf D z.cls = some k) (h99 : ¬ kd k < 99) (g1 : z.vm ≠ .unknown) (g2 : z.vm.isStatics = false) : sg0 D s a = some (k, z.slots.toList) := by
  rw [sg0_at hz hk ⟨g1, g2, fun q => absurd q h99⟩, show vOf D k z = z.slots.toList from if_neg h99]
theorem at_ob {a k : Nat} {z : Cell} {vs : List Value} (hz : s.heap[a]? = some z) (hk : kOf D z.cls = some k) (h99 : kd k < 99) (g1 : z.vm ≠ .unknown) (g2 : z.vm.isStatics = false) (hl : vs.length = nOf k) (hv : ∀ (j : Nat) (v : Value), vs[j]? = some v → z.slots[D.2 (kd k) j]? = some v) : sg0 D s a = some (k, vs) := by
  have e : vOf D k z = vs := by
    unfold vOf
    rw [if_pos h99]
    apply List.ext_getElem?
    intro j
    rw [List.getElem?_map]
    by_cases hj : j < vs.length
    · have hj' := List.getElem?_eq_getElem hj
      rw [List.getElem?_range (by omega), hj']
      show some ((z.slots[D.2 (kd k) j]?).getD .null) = _
      rw [hv j _ hj']
      rfl
    · rw [List.getElem?_eq_none (by rw [List.length_range]; omega), List.getElem?_eq_none (by omega)]
      rfl
  rw [sg0_at hz hk ⟨g1, g2, fun _ j hj => ⟨_, hv j _ (List.getElem?_eq_getElem (by omega))⟩⟩, e]
theorem len_spec {args : Array Value} {t : Term} {v : Int32} {a : Nat} (h : (Term.length t).eval args s none [] s = some (.int v)) (ht : t.eval args s none [] s = some (.ref a)) : ∃ z : Cell, s.arrayAt? a = some z ∧ z.slots.size < 2147483648 ∧ v = z.slots.size.toInt32 := by
  simp only [Term.eval, ht, Option.bind_eq_bind, Option.bind_some] at h
  obtain ⟨z, hz, h⟩ := Option.bind_eq_some_iff.mp h
  by_cases hn : z.slots.size < 2147483648
  · rw [if_pos hn] at h
    cases h
    exact ⟨z, hz, hn, rfl⟩
  · rw [if_neg hn] at h
    cases h
theorem cn_of {j : Nat} (h : j < 2147483648) : (Int32.ofNat j).toNatClampNeg = j := by
  show (Int32.ofNat j).toInt.toNat = _
  rw [Int32.toInt_ofNat_of_lt (by simpa using h)]
  omega
theorem ar_list {T : Term} {u n : Nat} {z : Cell} {w : Nat → Value} (e1 : T.eval #[.ref b] s none [] s = some (.ref u)) (e3 : s.heap[u]? = some z) (hlen : (Term.length T).eval #[.ref b] s none [] s = some (.int (Int32.ofNat n)))
    (hel : ∀ j, j < n → (Term.elem T (.int (Int32.ofNat j))).eval #[.ref b] s none [] s = some (w j)) (hn : n < 2147483648) : z.slots.toList = (List.range n).map w := by
  obtain ⟨z', q1, q2, q3⟩ := len_spec hlen e1
  have hz : z' = z := Option.some.inj ((State.arrayAt?_spec q1).1.symm.trans e3)
  subst hz
  have hs : n = z'.slots.size := by
    have h1 := cn_of hn
    have h2 := cn_of q2
    rw [q3] at h1
    exact h1.symm.trans h2
  apply List.ext_getElem?
  intro j
  rw [List.getElem?_map, show z'.slots.toList[j]? = z'.slots[j]? from Array.getElem?_toList]
  by_cases hj : j < n
  · obtain ⟨a', i', z2, r1, r2, r3, r4, r5⟩ := Term.elem_spec (hel j hj)
    have ha : u = a' := by
      have e := Option.some.inj (e1.symm.trans r1)
      cases e
      rfl
    subst ha
    have hz2 : z2 = z' := Option.some.inj ((State.arrayAt?_spec r3).1.symm.trans e3)
    have hi : i' = Int32.ofNat j := by
      have r2 : some (Value.int (Int32.ofNat j)) = some (.int i') := r2
      cases r2
      rfl
    rw [hz2, hi, cn_of (by omega)] at r5
    rw [List.getElem?_range hj, r5]
    rfl
  · rw [Array.getElem?_eq_none (by omega), List.getElem?_eq_none (by rw [List.length_range]; omega)]
    rfl
/-- an array of bytes -/
theorem by_at (K : Kn D s) (hg : Gv s b) {T : Term} {n : Nat} {f : Nat → Int} (hex : Cond.exactly T "[B" ∈ flN) (har : Cond.arrayOf T .byte ∈ flN) (hlen : Cond.eq (.length T) (.int (Int32.ofNat n)) ∈ flN) (hel : ∀ j, j < n → Cond.eq (.elem T (.int (Int32.ofNat j))) (.int (iI (f j))) ∈ flN) (hn : n < 2147483648) :
    ∃ u, T.eval #[.ref b] s none [] s = some (.ref u) ∧ sg0 D s u = some (302, ia n f) := by
  obtain ⟨u, c, z, k, e1, e2, e3, e4, e5, e6, e7⟩ := Cond.exactly_spec (hg.at hex)
  obtain ⟨a1, a2⟩ := Cond.arrayOf_spec (hg.at har) e1 e3
  have hc : z.cls = D.1 102 := by rw [e6]; exact Option.some.inj (e2.symm.trans (f_102 K))
  refine ⟨u, e1, ?_⟩
  rw [at_ar e3 (by rw [hc]; exact k_102 K) (by decide) a2 e5, ar_list (w := fun j => .int (iI (f j))) e1 e3 (va_eqt (hg.at hlen)) (fun j hj => va_eqt (hg.at (hel j hj))) hn]
  rfl
/-- a Sound -/
theorem snd_at (hg : Gv s b) {T : Term} {C : String} {k : Nat} {v : Int32} (hfC : s.vm.findClass C = some (D.1 (kd k))) (hk : kOf D (D.1 (kd k)) = some k) (h99 : kd k < 99) (hn : nOf k = 1) (hsl : SlotN s "java/lang/Enum" "ordinal" "I" (D.2 (kd k) 0)) (hex : Cond.exactly T C ∈ flN) (hor : Cond.eq (.field T "java/lang/Enum" "ordinal" "I") (.int v) ∈ flN) :
    ∃ a, T.eval #[.ref b] s none [] s = some (.ref a) ∧ sg0 D s a = some (k, [.int v]) := by
  obtain ⟨a, c, z, k9, e1, e2, e3, e4, e5, e6, e7⟩ := Cond.exactly_spec (hg.at hex)
  obtain ⟨cf, kf, fi, fd, g1, g2, g3⟩ := hsl
  obtain ⟨-, z', p1, p2, p3, p4, p5⟩ := Term.field_spec g1 e1 (va_eqt (hg.at hor))
  have hz : z' = z := Option.some.inj (p1.symm.trans e3)
  subst hz
  refine ⟨a, e1, at_ob p1 (by rw [e6, ← Option.some.inj (hfC.symm.trans e2)]; exact hk) h99 p2 p3 hn.symm (fun j v' hv => ?_)⟩
  cases j with
  | zero =>
    cases hv
    rw [← g2]
    exact p5
  | succ j => simp at hv
/-- a string -/
theorem str_at (K : Kn D s) (hts : ∀ w ∈ lw_tbl, w.before #[Value.ref b] s = true) (hg : Gv s b) {T : Term} {L : List Int} (hex : Cond.exactly T "java/lang/String" ∈ flN) (hco : Cond.eq (.field T "java/lang/String" "coder" "B") (.int 0) ∈ flN)
    (hexV : Cond.exactly (.field T "java/lang/String" "value" "[B") "[B" ∈ flN) (harV : Cond.arrayOf (.field T "java/lang/String" "value" "[B") .byte ∈ flN) (hlenV : Cond.eq (.length (.field T "java/lang/String" "value" "[B")) (.int (Int32.ofNat L.length)) ∈ flN)
    (helV : ∀ j, j < L.length → Cond.eq (.elem (.field T "java/lang/String" "value" "[B") (.int (Int32.ofNat j))) (.int (iI (wordS L j))) ∈ flN) (hn : L.length < 2147483648) :
    ∃ a u z1 z2, T.eval #[.ref b] s none [] s = some (.ref a) ∧ sg0 D s a = some (219, [.ref u, .int (iI 0), z1, z2]) ∧ sg0 D s u = some (302, ia L.length (wordS L)) := by
  obtain ⟨a, c, z, k9, e1, e2, e3, e4, e5, e6, e7⟩ := Cond.exactly_spec (hg.at hex)
  obtain ⟨u, v1, v2⟩ := by_at K hg hexV harV hlenV helV hn
  have hcc : c = D.1 19 := Option.some.inj (e2.symm.trans (f_19 K))
  have ksl := (K.1 19 _ rfl).2.1
  have s0 : SlotN s "java/lang/String" "value" "[B" (D.2 19 0) := ksl 0 (by decide)
  have s1 : SlotN s "java/lang/String" "coder" "B" (D.2 19 1) := ksl 1 (by decide)
  have s2 : SlotN s "java/lang/String" "hash" "I" (D.2 19 2) := ksl 2 (by decide)
  have s3 : SlotN s "java/lang/String" "hashIsZero" "Z" (D.2 19 3) := ksl 3 (by decide)
  obtain ⟨kC, o1, o2⟩ := K.2.1 19 _ rfl (by decide)
  have hkk : kC = k9 := Option.some.inj (o1.symm.trans (by rw [← hcc]; exact e4))
  subst hkk
  have hsz := e7 o2
  have ex : ∀ {f d : String} {i j : Nat}, SlotN s "java/lang/String" f d i → j < 4 → TJ6 j = ("java/lang/String", f, d, (TJ6 j).2.2.2) → ∃ v, z.slots[i]? = some v := by
    intro f d i j ⟨cf, kf, fi, fd, g1, g2, g3⟩ hj hT
    have hl := u_lays (fun w hw => hts w (lw_all_tbl hw)) in_J6 hj
    rw [hT] at hl
    have h3 := (u_facts e2 e4 hl g1).2.2
    have hlt : fd.slot < kC.instanceTypes.size := (Array.getElem?_eq_some_iff.mp h3).1
    rw [← g2]
    exact ⟨_, Array.getElem?_eq_getElem (by omega)⟩
  obtain ⟨z1, hz1⟩ := ex s2 (j := 2) (by decide) rfl
  obtain ⟨z2, hz2⟩ := ex s3 (j := 3) (by decide) rfl
  obtain ⟨cf, kf, fi, fd, g1, g2, g3⟩ := s0
  obtain ⟨-, z', p1, p2, p3, p4, p5⟩ := Term.field_spec g1 e1 v1
  have hz : z' = z := Option.some.inj (p1.symm.trans e3)
  subst hz
  obtain ⟨cf', kf', fi', fd', g1', g2', g3'⟩ := s1
  obtain ⟨-, z3, p1', -, -, -, p5'⟩ := Term.field_spec g1' e1 (va_eqt (hg.at hco))
  have hz3 : z3 = z' := Option.some.inj (p1'.symm.trans e3)
  subst hz3
  rw [g2] at p5
  rw [g2'] at p5'
  refine ⟨a, u, z1, z2, e1, at_ob e3 (by rw [e6, hcc]; exact k_19 K) (by decide) p2 p3 rfl (fun j v hv => ?_), v2⟩
  match j, hv with
  | 0, hv => cases hv; exact p5
  | 1, hv => cases hv; exact p5'
  | 2, hv => cases hv; exact hz1
  | 3, hv => cases hv; exact hz2
  | j + 4, hv => simp at hv
def adr (v : Value) : Nat := match v with | .ref a => a | _ => 0
end ST2
