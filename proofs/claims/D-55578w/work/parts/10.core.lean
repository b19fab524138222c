/-! CORE: an abstract heap, abstract instructions as predicate transformers, and what they have to do with the machine's walks -/
set_option maxRecDepth 100000
/-- the abstract heap: what lies where (kind, contents), the next address, how many cells and slots may still be made -/
abbrev HS : Type := (Nat → Option (Nat × List Value)) × Nat × Nat × Nat
/-- a point of a method as a predicate: locals, operand stack, heap -/
abbrev Ct : Type := List Value → List Value → HS → Prop
/-- how a call ends: a value or none, or the address of what was thrown -/
abbrev Rs : Type := Option Value ⊕ Nat
abbrev Wp : Type := List Value → HS → (Rs → HS → Prop) → Prop
/-- where a throw goes on: locals, what is thrown, heap -/
abbrev Xt : Type := List Value → Nat → HS → Prop
/-- a local variable of which nothing is known -/
def jk : Value := .retAddr 0
def hset (h : HS) (a : Nat) (o : Nat × List Value) : HS := (fun b => if b = a then some o else h.1 b, h.2)
def hnew (h : HS) (o : Nat × List Value) (n : Nat) : HS := (fun b => if b = h.2.1 then some o else h.1 b, h.2.1 + 1, h.2.2.1 - 1, h.2.2.2 - n)
/-- the classes of the abstract machine's objects: their class ids, their slots -/
abbrev DE : Type := (Nat → ClassId) × (Nat → Nat → Nat)
/-- kinds: below 99 a class (its place in ckl), 99 the lambda's, from 100 on an array (100 + its place in atl); + 200: the same, not to be written -/
def kd (k : Nat) : Nat := k % 200
def cellOk (D : DE) (b0 : Nat) (a : Nat) (o : Nat × List Value) (H : Heap) : Prop :=
  ∃ cell : Cell, H[a]? = some cell ∧ (cell.cls = D.1 (kd o.1) ∨ (o.1 = 300 ∧ cell.cls = D.1 108)) ∧ cell.vm ≠ .unknown ∧ cell.vm.isStatics = false ∧ (o.1 < 200 → b0 ≤ a ∧ cell.vm = .none ∧ cell.monitor.owner = none ∧ cell.monitor.count = 0) ∧
    (kd o.1 < 99 → ∃ r : vw_C, ckl[kd o.1]? = some r ∧ o.2.length = r.2.2 ∧ ∀ (j : Nat) (v : Value), o.2[j]? = some v → cell.slots[D.2 (kd o.1) j]? = some v) ∧ (99 ≤ kd o.1 → cell.slots = o.2.toArray)
theorem cls_lt {D : DE} {c : Nat} {x : ClassId} (h : x = D.1 (kd c) ∨ (c = 300 ∧ x = D.1 108)) (hc : c < 200) : x = D.1 (kd c) := h.resolve_right (fun q => by omega)
theorem cls_ne {D : DE} {c : Nat} {x : ClassId} (h : x = D.1 (kd c) ∨ (c = 300 ∧ x = D.1 108)) (hc : kd c ≠ 100) : x = D.1 (kd c) := h.resolve_right (fun q => hc (by rw [q.1]; rfl))
theorem ctab_ne : ∀ q ∈ ctab, q.1 ≠ 100 := by decide
theorem stab_ne : ∀ q ∈ stab, q.1 ≠ 100 := by decide
def slotSum (b : Nat) (H : Heap) : Nat := ((H.toList.drop b).map (·.slots.size)).sum
def RelH (D : DE) (s0 : State) (h : HS) (H : Heap) : Prop :=
  H.size = h.2.1 ∧ s0.heap.size ≤ H.size ∧ H.size + h.2.2.1 = s0.heap.size + 1200048 ∧ slotSum s0.heap.size H + h.2.2.2 = 5501818 ∧
    (∀ q, q < s0.heap.size → H[q]? = s0.heap[q]?) ∧ ∀ a o, h.1 a = some o → cellOk D s0.heap.size a o H
def LsOK (nL : Nat) (c2 : Nat → Bool) (ls : List Value) (lsC : Array Slot) : Prop :=
  lsC.size = nL ∧ ls.length = nL ∧ lv_wf lsC ∧ (∀ (i : Nat) (v : Value), ls[i]? = some v → v ≠ jk → lsC[i]? = some (Slot.val v)) ∧ ∀ (i : Nat) (v : Value), ls[i]? = some v → v.category = 2 → c2 i = true
/-- an instance field of that name lies in that slot -/
def SlotN (s : State) (C f d : String) (i : Nat) : Prop := ∃ cf kf fi fd, s.fieldFound? C f d = some (cf, kf, fi, fd) ∧ fd.slot = i ∧ fd.isStatic = false
theorem SlotN.moved {u E : State} {C f d : String} {i : Nat} (hvm : u.vm.Alike E.vm) (h : SlotN u C f d i) : SlotN E C f d i := by
  obtain ⟨cf, kf, fi, fd, hi, hs⟩ := h
  obtain ⟨kf', hi', -⟩ := State.fieldFound?_setVm (s := u) hvm hi
  exact ⟨cf, kf', fi, fd, by simpa only [State.fieldFound?, State.vm_setVm] using hi', hs⟩
/-- what is known of the classes -/
def Kn (D : DE) (s : State) : Prop :=
  (∀ (k : Nat) (r : vw_C), ckl[k]? = some r → s.vm.findClass r.1 = some (D.1 k) ∧ (∀ j, j < r.2.2 → SlotN s (r.2.1 j).1 (r.2.1 j).2.1 (r.2.1 j).2.2.1 (D.2 k j)) ∧ ∀ a b, a < r.2.2 → b < r.2.2 → a ≠ b → D.2 k a ≠ D.2 k b) ∧
  (∀ (k : Nat) (r : vw_C), ckl[k]? = some r → k < 21 → ∃ kC : Class, s.vm.classes[D.1 k]? = some kC ∧ kC.kind = .ordinary) ∧
  (∀ (k : Nat) (ty : FieldType), atl[k]? = some ty → ArrOfT s (D.1 (100 + k)) ty ∧ va_RA s (D.1 (100 + k)) ty) ∧
  (∀ q ∈ ctab, ∃ t, s.vm.findClass q.2 = some t ∧ s.vm.assignable (D.1 q.1) t = true ∧ ∃ k9 : Class, s.vm.classes[D.1 q.1]? = some k9) ∧ (∀ q ∈ ntab, ∃ t, s.vm.findClass q.2 = some t ∧ s.vm.assignable (D.1 q.1) t = false) ∧ ArrOfT s (D.1 108) .int
theorem Kn.moved {D : DE} {u U : State} (hvm : u.vm.Alike U.vm) (h : Kn D u) : Kn D U := by
  refine ⟨fun k r hr => ?_, fun k r hr hk => ?_, fun k ty ht => ⟨arrOfT_moved hvm (h.2.2.1 k ty ht).1, va_RA.moved hvm (h.2.2.1 k ty ht).2⟩, fun q hq => ?_, fun q hq => ?_, arrOfT_moved hvm h.2.2.2.2.2⟩
  · obtain ⟨h1, h2, h3⟩ := h.1 k r hr
    exact ⟨by rw [hvm.findClass]; exact h1, fun j hj => (h2 j hj).moved hvm, h3⟩
  · obtain ⟨kC, h1, h2⟩ := h.2.1 k r hr hk
    obtain ⟨k', hk', he⟩ := hvm.2.2 _ _ h1
    exact ⟨k', hk', by rw [he]; exact h2⟩
  · obtain ⟨t, h1, h2, k9, h3⟩ := h.2.2.2.1 q hq
    obtain ⟨k', hk', -⟩ := hvm.2.2 _ _ h3
    exact ⟨t, by rw [hvm.findClass]; exact h1, by rw [hvm.assignable]; exact h2, k', hk'⟩
  · obtain ⟨t, h1, h2⟩ := h.2.2.2.2.1 q hq
    exact ⟨t, by rw [hvm.findClass]; exact h1, by rw [hvm.assignable]; exact h2⟩
/-- all that stays the same while a method runs -/
abbrev CX : Type := (Program × Launch × Env × Room) × (State × MethodId × Array Value × List Frame) × (Method × Code × (State → Prop)) × (DE × State × HS) × (Nat × (Nat → Bool))
abbrev aW (x : CX) (H : Heap) (locs : List Loc) (ce sl : Nat) (g : JFrame) : Prop :=
  W x.1.1 x.1.2.1 x.1.2.2.1 x.1.2.2.2 x.2.1.1 x.2.1.2.1 x.2.1.2.2.1 x.2.1.2.2.2 x.2.2.1.1 x.2.2.1.2.1 H locs ce sl x.2.2.1.2.2 g
def AW (x : CX) (pc : Nat) : Ct := fun ls st h =>
  ∀ (H : Heap) (locs : List Loc) (lsC : Array Slot), RelH x.2.2.2.1.1 x.2.2.2.1.2.1 h H → (∀ z ∈ locs, x.2.2.2.1.2.1.heap.size ≤ z.base) → LsOK x.2.2.2.2.1 x.2.2.2.2.2 ls lsC →
    aW x H locs (x.2.2.2.1.2.2.2.2.1 - h.2.2.1) (x.2.2.2.1.2.2.2.2.2 - h.2.2.2) (F0 x.2.1.2.1 pc lsC st)
/-- the abstract point K is right at pc -/
def Snd (x : CX) (pc : Nat) (K : Ct) : Prop := ∀ ls st h, K ls st h → AW x pc ls st h
theorem slotSum_push {b : Nat} {H : Heap} (h : b ≤ H.size) (z : Cell) : slotSum b (H.push z) = slotSum b H + z.slots.size := by
  unfold slotSum
  rw [Array.toList_push, List.drop_append_of_le_length (by simpa using h)]
  simp
theorem slotSum_congr {b : Nat} {H H' : Heap} (hs : H'.size = H.size) (h : ∀ q : Nat, (H'[q]?).map (·.slots.size) = (H[q]?).map (·.slots.size)) : slotSum b H' = slotSum b H := by
  unfold slotSum
  congr 1
  apply List.ext_getElem?
  intro i
  have := h (b + i)
  simpa [List.getElem?_map, List.getElem?_drop] using this
theorem slotSum_split {b : Nat} {S T : Heap} (hb : b ≤ S.size) (hst : S.size ≤ T.size) (h : ∀ (a : Nat) (c : Cell), S[a]? = some c → ∃ c', T[a]? = some c' ∧ c'.slots.size = c.slots.size) :
    slotSum b T = slotSum b S + ((T.toList.drop S.size).map (·.slots.size)).sum := by
  unfold slotSum
  have e1 : T.toList.drop b = (T.toList.drop b).take (S.size - b) ++ T.toList.drop S.size := by
    have h1 := List.take_append_drop (S.size - b) (T.toList.drop b)
    rw [List.drop_drop] at h1
    rw [show b + (S.size - b) = S.size by omega] at h1
    exact h1.symm
  rw [e1, List.map_append, List.sum_append]
  congr 2
  apply List.ext_getElem?
  intro i
  simp only [List.getElem?_map, List.getElem?_take, List.getElem?_drop]
  by_cases hi : i < S.size - b
  · rw [if_pos hi]
    have hlt : b + i < S.size := by omega
    obtain ⟨c', h1, h2⟩ := h (b + i) _ (Array.getElem?_eq_getElem hlt)
    have h3 : T.toList[b + i]? = some c' := by simpa using h1
    have h4 : S.toList[b + i]? = some S[b + i] := by simp [hlt]
    rw [h3, h4]
    simp [h2]
  · rw [if_neg hi]
    have h4 : S.toList[b + i]? = none := by simp; omega
    rw [h4]
theorem tighten {p : Program} {l : Launch} {e : Env} {R : Room} {s : State} {m : MethodId} {args : Array Value} {below : List Frame} {meth : Method} {c : Code} {T : State} {locs : List Loc} {cells slots : Nat} {D : DE} {s0 : State} {h0 h : HS}
    (X : Stand p l e R s m args below meth c T locs cells slots) (hR0 : RelH D s0 h0 s.heap) (hR : RelH D s0 h T.heap) : Stand p l e R s m args below meth c T locs (h0.2.2.1 - h.2.2.1) (h0.2.2.2 - h.2.2.2) := by
  obtain ⟨a1, a2, a3, a4, a5, a6⟩ := hR0
  obtain ⟨b1, b2, b3, b4, b5, b6⟩ := hR
  obtain ⟨q1, q2, q3, q4, q5, q6⟩ := X.same
  have q2' : s.heap.size ≤ T.heap.size := q2
  have hsp : slotSum s0.heap.size T.heap = slotSum s0.heap.size s.heap + ((T.heap.toList.drop s.heap.size).map (·.slots.size)).sum :=
    slotSum_split a2 q2' (fun a c hc => by obtain ⟨c', r1, r2, r3, r4⟩ := q6 a c hc; exact ⟨c', r1, r3⟩)
  refine { X with same := ⟨q1, q2, ?_, q4, ?_, q6⟩ }
  · show T.heap.size ≤ s.heap.size + (h0.2.2.1 - h.2.2.1)
    omega
  · show ((T.heap.toList.drop s.heap.size).map (·.slots.size)).sum ≤ h0.2.2.2 - h.2.2.2
    omega
/-- a walk may go on with the tightest count -/
theorem aW_tight {x : CX} {H : Heap} {locs : List Loc} {ce sl : Nat} {g : JFrame} {h : HS} (hR0 : RelH x.2.2.2.1.1 x.2.2.2.1.2.1 x.2.2.2.1.2.2 x.2.1.1.heap) (hR : RelH x.2.2.2.1.1 x.2.2.2.1.2.1 h H)
    (k : aW x H locs (x.2.2.2.1.2.2.2.2.1 - h.2.2.1) (x.2.2.2.1.2.2.2.2.2 - h.2.2.2) g) : aW x H locs ce sl g := by
  intro T hT X
  exact k T hT (tighten X hR0 (by rw [hT]; exact hR))
/-- one cell of the heap is changed, nothing else -/
theorem RelH.put {D : DE} {s0 : State} {h : HS} {H H' : Heap} (hR : RelH D s0 h H) {a : Nat} {o o' : Nat × List Value} (ho : h.1 a = some o) (hk : o.1 < 200) {cell cell' : Cell} (hc : H[a]? = some cell) (hc' : H'[a]? = some cell') (hsz : H'.size = H.size)
    (hoth : ∀ q : Nat, q ≠ a → H'[q]? = H[q]?) (hss : cell'.slots.size = cell.slots.size) (hok : cellOk D s0.heap.size a o' H') : RelH D s0 (hset h a o') H' := by
  obtain ⟨b1, b2, b3, b4, b5, b6⟩ := hR
  obtain ⟨c9, r1, r2, r3, r4, r5, r6, r7⟩ := b6 a o ho
  have hba := (r5 hk).1
  refine ⟨by rw [hsz]; exact b1, by rw [hsz]; exact b2, by rw [hsz]; exact b3, ?_, fun q hq => ?_, fun b ob hb => ?_⟩
  · rw [slotSum_congr hsz (H := H) (fun q => ?_)]
    · exact b4
    · by_cases e : q = a
      · subst e; rw [hc, hc']; simp [hss]
      · rw [hoth q e]
  · rw [hoth q (by omega)]; exact b5 q hq
  · by_cases e : b = a
    · subst e
      simp only [hset, if_true] at hb
      cases hb
      exact hok
    · simp only [hset, if_neg e] at hb
      obtain ⟨c9, r1, r2⟩ := b6 b ob hb
      exact ⟨c9, by rw [hoth b e]; exact r1, r2⟩
/-- a cell is made -/
theorem RelH.push {D : DE} {s0 : State} {h : HS} {H : Heap} (hR : RelH D s0 h H) {o : Nat × List Value} {cell : Cell} (hc : 1 ≤ h.2.2.1) (hn : cell.slots.size ≤ h.2.2.2) (hok : cellOk D s0.heap.size H.size o (H.push cell)) : RelH D s0 (hnew h o cell.slots.size) (H.push cell) := by
  obtain ⟨b1, b2, b3, b4, b5, b6⟩ := hR
  refine ⟨?_, ?_, ?_, ?_, fun q hq => ?_, fun b ob hb => ?_⟩
  · simp [hnew, b1]
  · simp only [Array.size_push]; omega
  · simp only [Array.size_push, hnew]; omega
  · rw [slotSum_push b2]; simp only [hnew]; omega
  · rw [Array.getElem?_push_lt (by omega), ← b5 q hq, Array.getElem?_eq_getElem]
  · by_cases e : b = h.2.1
    · subst e
      simp only [hnew, if_true] at hb
      cases hb
      rw [← b1]
      exact hok
    · simp only [hnew, if_neg e] at hb
      obtain ⟨c9, r1, r2⟩ := b6 b ob hb
      have hlt : b < H.size := (Array.getElem?_eq_some_iff.mp r1).1
      exact ⟨c9, by rw [Array.getElem?_push_lt hlt, ← Array.getElem?_eq_getElem]; exact r1, r2⟩
/-! the locals -/
def knownL (ls : List Value) : List (Nat × Value) := (List.range ls.length).filterMap (fun j => match ls[j]? with | some w => if w = jk then none else some (j, w) | none => none)
theorem knownL_mem {ls : List Value} {j : Nat} {w : Value} : (j, w) ∈ knownL ls ↔ ls[j]? = some w ∧ w ≠ jk := by
  unfold knownL
  rw [List.mem_filterMap]
  constructor
  · rintro ⟨i, hi, h⟩
    split at h
    · next v hv =>
      by_cases e : v = jk
      · rw [if_pos e] at h; cases h
      · rw [if_neg e] at h; cases h; exact ⟨hv, e⟩
    · cases h
  · rintro ⟨h1, h2⟩
    refine ⟨j, List.mem_range.mpr (List.getElem?_eq_some_iff.mp h1).1, ?_⟩
    rw [h1]; simp [h2]
theorem LsOK.has {nL : Nat} {c2 : Nat → Bool} {ls : List Value} {lsC : Array Slot} (h : LsOK nL c2 ls lsC) : lv_has lsC nL (knownL ls) := by
  refine ⟨h.1, h.2.2.1, fun q hq => ?_⟩
  obtain ⟨j, w⟩ := q
  obtain ⟨h1, h2⟩ := knownL_mem.mp hq
  exact h.2.2.2.1 j w h1 h2
theorem LsOK.store {nL : Nat} {c2 : Nat → Bool} {ls : List Value} {lsC ls' : Array Slot} {i : Nat} {v : Value} (h : LsOK nL c2 ls lsC) (hv : v.category = 1) (hc : ∀ j, j + 1 = i → c2 j = false)
    (h' : lv_has ls' nL ((i, v) :: (knownL ls).filter (fun q => !(q.1 == i) && !(q.1 + 1 == i && q.2.category == 2)))) : LsOK nL c2 (ls.set i v) ls' := by
  refine ⟨h'.1, by rw [List.length_set]; exact h.2.1, h'.2.1, fun j w hj hw => ?_, fun j w hj hw => ?_⟩
  · rw [List.getElem?_set] at hj
    by_cases e : i = j
    · subst e
      rw [if_pos rfl] at hj
      split at hj
      · cases hj; exact h'.2.2 (i, v) List.mem_cons_self
      · cases hj
    · rw [if_neg e] at hj
      refine h'.2.2 (j, w) (List.mem_cons_of_mem _ (List.mem_filter.mpr ⟨knownL_mem.mpr ⟨hj, hw⟩, ?_⟩))
      have e1 : (j == i) = false := by simp [Ne.symm e]
      simp only [e1, Bool.not_false, Bool.true_and, Bool.not_eq_true', Bool.and_eq_false_iff, beq_eq_false_iff_ne, ne_eq]
      by_cases e2 : j + 1 = i
      · right
        intro e3
        have := h.2.2.2.2 j w hj e3
        rw [hc j e2] at this
        cases this
      · exact Or.inl e2
  · rw [List.getElem?_set] at hj
    by_cases e : i = j
    · subst e
      rw [if_pos rfl] at hj
      split at hj
      · cases hj; omega
      · cases hj
    · rw [if_neg e] at hj
      exact h.2.2.2.2 j w hj hw
theorem LsOK.store2 {nL : Nat} {c2 : Nat → Bool} {ls : List Value} {lsC ls' : Array Slot} {i : Nat} {v : Value} (h : LsOK nL c2 ls lsC) (hv : c2 i = true) (hc : ∀ j, j + 1 = i → c2 j = false)
    (h' : lv_has ls' nL ((i, v) :: (knownL ls).filter (fun q => !(q.1 == i) && (!(q.1 == i + 1) && !(q.1 + 1 == i && q.2.category == 2))))) : LsOK nL c2 ((ls.set i v).set (i + 1) jk) ls' := by
  have key : ∀ (j : Nat) (w : Value), ((ls.set i v).set (i + 1) jk)[j]? = some w → (j = i + 1 ∧ w = jk) ∨ (j = i ∧ w = v) ∨ (j ≠ i ∧ j ≠ i + 1 ∧ ls[j]? = some w) := by
    intro j w hj
    rw [List.getElem?_set] at hj
    by_cases e : i + 1 = j
    · rw [if_pos e] at hj
      split at hj
      · cases hj; exact Or.inl ⟨e.symm, rfl⟩
      · cases hj
    · rw [if_neg e, List.getElem?_set] at hj
      by_cases e2 : i = j
      · rw [if_pos e2] at hj
        split at hj
        · cases hj; exact Or.inr (Or.inl ⟨e2.symm, rfl⟩)
        · cases hj
      · rw [if_neg e2] at hj
        exact Or.inr (Or.inr ⟨fun q => e2 q.symm, fun q => e q.symm, hj⟩)
  refine ⟨h'.1, by rw [List.length_set, List.length_set]; exact h.2.1, h'.2.1, fun j w hj hw => ?_, fun j w hj hw => ?_⟩
  · rcases key j w hj with ⟨-, e⟩ | ⟨rfl, rfl⟩ | ⟨e1, e2, e3⟩
    · exact absurd e hw
    · exact h'.2.2 (j, w) List.mem_cons_self
    · refine h'.2.2 (j, w) (List.mem_cons_of_mem _ (List.mem_filter.mpr ⟨knownL_mem.mpr ⟨e3, hw⟩, ?_⟩))
      have a1 : (j == i) = false := by simp [e1]
      have a2 : (j == i + 1) = false := by simp [e2]
      simp only [a1, a2, Bool.not_false, Bool.true_and, Bool.not_eq_true', Bool.and_eq_false_iff, beq_eq_false_iff_ne, ne_eq]
      by_cases e4 : j + 1 = i
      · right
        intro e5
        have := h.2.2.2.2 j w e3 e5
        rw [hc j e4] at this
        cases this
      · exact Or.inl e4
  · rcases key j w hj with ⟨-, e⟩ | ⟨rfl, rfl⟩ | ⟨e1, e2, e3⟩
    · subst e; simp [jk, Value.category] at hw
    · exact hv
    · exact h.2.2.2.2 j w e3 hw
section STO
variable {x : CX} {cc : ByteArray} {pc : Nat} {K T : Ct}
abbrev xB (x : CX) (cc : ByteArray) : Prop := x.1.1.tables.exec = Jvm.exec ∧ x.2.2.1.2.1.code = cc
def o_istore (i : Nat) (K : Ct) : Ct := fun ls st h => match st with | .int z :: r => K (ls.set i (.int z)) r h | _ => False
theorem s_istore_n {i : Nat} {q : Fin 4} (hi : (q : Nat) = i) (G : xB x cc) (hn : i < x.2.2.2.2.1) (hc : ∀ j, j + 1 = i → x.2.2.2.2.2 j = false) (d : decode cc pc = .ok (.istore_n q, 1)) (k : Snd x (pc + 1) K) : Snd x pc (o_istore i K) := by
  intro ls st h hk H locs lsC hR hL hl
  unfold o_istore at hk
  split at hk
  · exact lv_istore_n G.1 G.2 d hi hl.has hn rfl (fun ls' h' => k _ _ _ hk H locs ls' hR hL (hl.store rfl hc h'))
  · exact hk.elim
theorem s_istore {i : Nat} (G : xB x cc) (hn : i < x.2.2.2.2.1) (hc : ∀ j, j + 1 = i → x.2.2.2.2.2 j = false) (d : decode cc pc = .ok (.istore i, 2)) (k : Snd x (pc + 2) K) : Snd x pc (o_istore i K) := by
  intro ls st h hk H locs lsC hR hL hl
  unfold o_istore at hk
  split at hk
  · exact lv_istore G.1 G.2 d hl.has hn rfl (fun ls' h' => k _ _ _ hk H locs ls' hR hL (hl.store rfl hc h'))
  · exact hk.elim
def o_astore (i : Nat) (K : Ct) : Ct := fun ls st h => match st with | .ref z :: r => K (ls.set i (.ref z)) r h | .null :: r => K (ls.set i .null) r h | _ => False
theorem s_astore_n {i : Nat} {q : Fin 4} (hi : (q : Nat) = i) (G : xB x cc) (hn : i < x.2.2.2.2.1) (hc : ∀ j, j + 1 = i → x.2.2.2.2.2 j = false) (d : decode cc pc = .ok (.astore_n q, 1)) (k : Snd x (pc + 1) K) : Snd x pc (o_astore i K) := by
  intro ls st h hk H locs lsC hR hL hl
  unfold o_astore at hk
  split at hk
  · exact lv_astore_n G.1 G.2 d hi hl.has hn rfl (fun ls' h' => k _ _ _ hk H locs ls' hR hL (hl.store rfl hc h'))
  · exact lv_astore_nN G.1 G.2 d hi hl.has hn rfl (fun ls' h' => k _ _ _ hk H locs ls' hR hL (hl.store rfl hc h'))
  · exact hk.elim
theorem s_astore {i : Nat} (G : xB x cc) (hn : i < x.2.2.2.2.1) (hc : ∀ j, j + 1 = i → x.2.2.2.2.2 j = false) (d : decode cc pc = .ok (.astore i, 2)) (k : Snd x (pc + 2) K) : Snd x pc (o_astore i K) := by
  intro ls st h hk H locs lsC hR hL hl
  unfold o_astore at hk
  split at hk
  · exact lv_astore G.1 G.2 d hl.has hn rfl (fun ls' h' => k _ _ _ hk H locs ls' hR hL (hl.store rfl hc h'))
  · exact lv_astoreN G.1 G.2 d hl.has hn rfl (fun ls' h' => k _ _ _ hk H locs ls' hR hL (hl.store rfl hc h'))
  · exact hk.elim
def o_dstore (i : Nat) (K : Ct) : Ct := fun ls st h => match st with | .double z :: r => K ((ls.set i (.double z)).set (i + 1) jk) r h | _ => False
theorem s_dstore {i : Nat} (G : xB x cc) (hn : i + 1 < x.2.2.2.2.1) (hv : x.2.2.2.2.2 i = true) (hc : ∀ j, j + 1 = i → x.2.2.2.2.2 j = false) (d : decode cc pc = .ok (.dstore i, 2)) (k : Snd x (pc + 2) K) : Snd x pc (o_dstore i K) := by
  intro ls st h hk H locs lsC hR hL hl
  unfold o_dstore at hk
  split at hk
  · exact lv_dstore G.1 G.2 d hl.has hn rfl (fun ls' h' => k _ _ _ hk H locs ls' hR hL (hl.store2 hv hc h'))
  · exact hk.elim
def o_iinc (i : Nat) (n : Int32) (K : Ct) : Ct := fun ls st h => match ls[i]? with | some (.int z) => K (ls.set i (.int (z + n))) st h | _ => False
theorem s_iinc {i : Nat} {n : Int32} {q : Int} (hq : Int32.ofInt q = n) (G : xB x cc) (hn : i < x.2.2.2.2.1) (hc : ∀ j, j + 1 = i → x.2.2.2.2.2 j = false) (d : decode cc pc = .ok (.iinc i q, 3)) (k : Snd x (pc + 3) K) : Snd x pc (o_iinc i n K) := by
  intro ls st h hk H locs lsC hR hL hl
  unfold o_iinc at hk
  split at hk
  · next z hz =>
    obtain ⟨k9, h9⟩ := List.getElem?_of_mem (knownL_mem.mpr ⟨hz, fun q => by simp only [jk] at q; cases q⟩)
    exact lv_iinc G.1 G.2 d hl.has h9 (by rw [hq]) hn rfl (fun ls' h' => k _ _ _ hk H locs ls' hR hL (hl.store rfl hc h'))
  · exact hk.elim
end STO
