/-! THE ABSTRACT INSTRUCTIONS on the heap: fields, arrays, new, casts -/
set_option maxRecDepth 100000
/-- the kind (but for 'not to be written') is one of these -/
def inK (cs : List Nat) (k : Nat) : Bool := cs.any (fun c => c == kd k)
theorem inK_spec {cs : List Nat} {k : Nat} (h : inK cs k = true) : kd k ∈ cs := by
  unfold inK at h
  rw [List.any_eq_true] at h
  obtain ⟨c, h1, h2⟩ := h
  have : c = kd k := by simpa using h2
  rw [← this]; exact h1
section HEAP
variable {x : CX} {cc : ByteArray} {pc : Nat} {K T : Ct}
abbrev yS (x : CX) : State := x.2.1.1
abbrev yM (x : CX) : MethodId := x.2.1.2.1
abbrev yA (x : CX) : Array Value := x.2.1.2.2.1
abbrev yD (x : CX) : DE := x.2.2.2.1.1
/-- reading a field -/
def o_getf (cs : List Nat) (k : Nat) (K : Ct) : Ct := fun ls st h => match st with
  | .ref a :: r => (match h.1 a with | some (c, vs) => inK cs c = true ∧ (match vs[k]? with | some v => K ls (v :: r) h | none => False) | none => False)
  | _ => False
/-- the fields with that name, of those kinds, are the k-th -/
def fieldAt (cs : List Nat) (k : Nat) (decl name desc : String) : Prop := ∀ c ∈ cs, ∃ r : vw_C, ckl[c]? = some r ∧ k < r.2.2 ∧ (r.2.1 k).1 = decl ∧ (r.2.1 k).2.1 = name ∧ (r.2.1 k).2.2.1 = desc
theorem s_getf {own ref decl name desc : String} {index : Nat} {cs : List Nat} {k : Nat} (G : xB x cc) (hown : (yS x).vm.findClass own = some (yM x).cls) (hKn : Kn (yD x) (yS x)) (hlink : (Cond.fieldLink own index ref name desc).before (yA x) (yS x) = true)
    (hsame : ∀ z, (yS x).fieldFound? decl name desc = some z → (yS x).fieldFound? ref name desc = some z) (hf : fieldAt cs k decl name desc) (d : decode cc pc = .ok (.getfield index, 3)) (kk : Snd x (pc + 3) K) : Snd x pc (o_getf cs k K) := by
  intro ls st h hk H locs lsC hR hL hl
  unfold o_getf at hk
  split at hk
  · next a r =>
    split at hk
    · next c vs hσ =>
      obtain ⟨hin, hk⟩ := hk
      split at hk
      · next v hv =>
        obtain ⟨cell, q1, q2, q3, q4, q5, q6, q7⟩ := hR.2.2.2.2.2 a _ hσ
        obtain ⟨r1, e1, e2, e3, e4, e5⟩ := hf _ (inK_spec hin)
        have hlt : kd c < 99 := by
          have := (List.getElem?_eq_some_iff.mp e1).1
          have h2 : ckl.length = 23 := rfl
          omega
        obtain ⟨r2, f1, f2, f3⟩ := q6 hlt
        obtain ⟨-, hsl, -⟩ := hKn.1 _ _ e1
        obtain ⟨cf, kf, fi, fd, g1, g2, g3⟩ := hsl k e2
        rw [e3, e4, e5] at g1
        exact W.getf G.1 G.2 hown hlink (hsame _ g1) g3 q1 q3 (by rw [g2]; exact f3 k v hv) rfl rfl d (kk _ _ _ hk H locs lsC hR hL hl)
      · exact hk.elim
    · exact hk.elim
  · exact hk.elim
theorem s_getfN {own ref decl name desc host : String} {index : Nat} {cs : List Nat} {k : Nat} (G : xB x cc) (hown : (yS x).vm.findClass own = some (yM x).cls) (hKn : Kn (yD x) (yS x)) (hlink : (Cond.fieldLinkNest own index ref name desc host).before (yA x) (yS x) = true)
    (hsame : ∀ z, (yS x).fieldFound? decl name desc = some z → (yS x).fieldFound? ref name desc = some z) (hf : fieldAt cs k decl name desc) (d : decode cc pc = .ok (.getfield index, 3)) (kk : Snd x (pc + 3) K) : Snd x pc (o_getf cs k K) := by
  intro ls st h hk H locs lsC hR hL hl
  unfold o_getf at hk
  split at hk
  · next a r =>
    split at hk
    · next c vs hσ =>
      obtain ⟨hin, hk⟩ := hk
      split at hk
      · next v hv =>
        obtain ⟨cell, q1, q2, q3, q4, q5, q6, q7⟩ := hR.2.2.2.2.2 a _ hσ
        obtain ⟨r1, e1, e2, e3, e4, e5⟩ := hf _ (inK_spec hin)
        have hlt : kd c < 99 := by
          have := (List.getElem?_eq_some_iff.mp e1).1
          have h2 : ckl.length = 23 := rfl
          omega
        obtain ⟨r2, f1, f2, f3⟩ := q6 hlt
        obtain ⟨-, hsl, -⟩ := hKn.1 _ _ e1
        obtain ⟨cf, kf, fi, fd, g1, g2, g3⟩ := hsl k e2
        rw [e3, e4, e5] at g1
        exact va_Wgetf G.1 G.2 hown hlink (hsame _ g1) g3 q1 q3 (by rw [g2]; exact f3 k v hv) rfl rfl d (kk _ _ _ hk H locs lsC hR hL hl)
      · exact hk.elim
    · exact hk.elim
  · exact hk.elim
/-- writing a field -/
def o_putf (cs : List Nat) (k : Nat) (ty : FieldType) (K : Ct) : Ct := fun ls st h => match st with
  | v :: .ref a :: r => (match h.1 a with | some (c, vs) => c < 200 ∧ inK cs c = true ∧ narrow ty v = v ∧ fits ty v = true ∧ K ls r (hset h a (c, vs.set k v)) | none => False)
  | _ => False
/-- where a put ends: the heap with the one cell changed -/
theorem putf_end {D : DE} {s0 s : State} {h : HS} {H H' : Heap} {a c k : Nat} {vs : List Value} {v : Value} {cell : Cell} {r : vw_C} (hKn : Kn D s) (hR : RelH D s0 h H) (hσ : h.1 a = some (c, vs)) (hc : c < 200) (hr : ckl[kd c]? = some r) (hk : k < r.2.2)
    (hcell : H[a]? = some cell) (hH : H'[a]? = some (cell.setSlot (D.2 (kd c) k) v)) (hz : H'.size = H.size) (ho : ∀ q, q ≠ a → H'[q]? = H[q]?) : RelH D s0 (hset h a (c, vs.set k v)) H' := by
  obtain ⟨cell2, q1, q2, q3, q4, q5, q6, q7⟩ := hR.2.2.2.2.2 a _ hσ
  cases Option.some.inj (q1.symm.trans hcell)
  have hlt : kd c < 99 := by
    have := (List.getElem?_eq_some_iff.mp hr).1
    have h2 : ckl.length = 23 := rfl
    omega
  obtain ⟨r2, f1, f2, f3⟩ := q6 hlt
  cases Option.some.inj (f1.symm.trans hr)
  obtain ⟨-, -, hap⟩ := hKn.1 _ _ hr
  have f2 : vs.length = r.2.2 := f2
  refine hR.put hσ hc hcell hH hz ho (k2_slotsz _ _ _) ⟨_, hH, q2, q3, q4, fun _ => q5 hc, fun _ => ⟨r, hr, by rw [List.length_set]; exact f2, fun j w hj => ?_⟩, fun q => by exfalso; have : 99 ≤ kd c := q; omega⟩
  have hj : (vs.set k v)[j]? = some w := hj
  rw [List.getElem?_set] at hj
  have hks : (D.2 (kd c) k) < cell.slots.size := by
    obtain ⟨w0, hw0⟩ : ∃ w0, vs[k]? = some w0 := ⟨vs[k]'(by omega), List.getElem?_eq_getElem (by omega)⟩
    exact k2_hasslot (f3 k w0 hw0)
  by_cases e : k = j
  · subst e
    rw [if_pos rfl] at hj
    split at hj
    · cases hj; exact Cell.slots_setSlot_self _ hks
    · cases hj
  · rw [if_neg e] at hj
    have hjl : j < r.2.2 := by rw [← f2]; exact (List.getElem?_eq_some_iff.mp hj).1
    rw [slot_ne _ _ (hap k j hk hjl e)]
    exact f3 j w hj
/-- a field that isn't final -/
def layAt (cs : List Nat) (decl name desc : String) (x : CX) : Prop := ∀ c ∈ cs, c < 21 ∧ ∀ r, ckl[c]? = some r → (Cond.lays r.1 decl name desc).before (yA x) (yS x) = true
theorem putf_pre {D : DE} {s : State} {args : Array Value} {c k : Nat} {r : vw_C} {decl name desc : String} {ty : FieldType} {v : Value} (hKn : Kn D s) (hr : ckl[c]? = some r) (h21 : c < 21) (hk : k < r.2.2) (e3 : (r.2.1 k).1 = decl) (e4 : (r.2.1 k).2.1 = name) (e5 : (r.2.1 k).2.2.1 = desc)
    (hlay : (Cond.lays r.1 decl name desc).before args s = true) (hty : parseFieldDescriptor desc = some ty) (hn : narrow ty v = v) (hfi : fits ty v = true) :
    ∃ cf kf fi fd, s.fieldFound? decl name desc = some (cf, kf, fi, fd) ∧ fd.slot = D.2 c k ∧ fd.isStatic = false ∧ k2_Sd s fd (D.1 c) v := by
  obtain ⟨hfc, hsl, -⟩ := hKn.1 _ _ hr
  obtain ⟨cf, kf, fi, fd, g1, g2, g3⟩ := hsl k hk
  rw [e3, e4, e5] at g1
  obtain ⟨kC, hkC, hkind⟩ := hKn.2.1 _ _ hr h21
  exact ⟨cf, kf, fi, fd, g1, g2, g3, u_store hfc hkC hkind hlay g1 hty hn hfi⟩
theorem s_putf {own ref decl name desc : String} {index : Nat} {cs : List Nat} {k : Nat} {ty : FieldType} (G : xB x cc) (hown : (yS x).vm.findClass own = some (yM x).cls) (hKn : Kn (yD x) (yS x)) (hlink : (Cond.fieldLink own index ref name desc).before (yA x) (yS x) = true)
    (hsame : ∀ z, (yS x).fieldFound? decl name desc = some z → (yS x).fieldFound? ref name desc = some z) (hf : fieldAt cs k decl name desc) (hlay : layAt cs decl name desc x) (hty : parseFieldDescriptor desc = some ty) (d : decode cc pc = .ok (.putfield index, 3)) (kk : Snd x (pc + 3) K) : Snd x pc (o_putf cs k ty K) := by
  intro ls st h hk H locs lsC hR hL hl
  unfold o_putf at hk
  split at hk
  · next v a r =>
    split at hk
    · next c vs hσ =>
      obtain ⟨hc, hin, hn, hfi, hk⟩ := hk
      obtain ⟨cell, q1, q2, q3, q4, q5, q6, q7⟩ := hR.2.2.2.2.2 a _ hσ
      obtain ⟨r1, e1, e2, e3, e4, e5⟩ := hf _ (inK_spec hin)
      obtain ⟨cf, kf, fi, fd, g1, g2, g3, g4⟩ := putf_pre hKn e1 (hlay _ (inK_spec hin)).1 e2 e3 e4 e5 ((hlay _ (inK_spec hin)).2 _ e1) hty hn hfi
      have hlt : kd c < 99 := by have := (hlay _ (inK_spec hin)).1; omega
      obtain ⟨r2, f1, f2, f3⟩ := q6 hlt
      have f2 : vs.length = r2.2.2 := f2
      have hks : fd.slot < cell.slots.size := by
        cases Option.some.inj (f1.symm.trans e1)
        obtain ⟨w0, hw0⟩ : ∃ w0, vs[k]? = some w0 := ⟨vs[k]'(by omega), List.getElem?_eq_getElem (by omega)⟩
        rw [g2]; exact k2_hasslot (f3 k w0 hw0)
      refine W.putK G.1 G.2 (f := fd) ⟨hown, hlink, ⟨_, _, _, hsame _ g1⟩, g3⟩ (by rw [cls_lt q2 hc]; exact g4) q1 (q5 hc).2.1 hks rfl rfl d fun H' z1 z2 z3 => ?_
      rw [g2] at z1
      exact kk _ _ _ hk H' _ lsC (putf_end hKn hR hσ hc e1 e2 q1 z1 z2 z3) (fun z hz => (List.mem_append.mp hz).elim (hL z) (fun q => by rw [List.mem_singleton.mp q]; exact (q5 hc).1)) hl
    · exact hk.elim
  · exact hk.elim
theorem s_putfN {own ref decl name desc host : String} {index : Nat} {cs : List Nat} {k : Nat} {ty : FieldType} (G : xB x cc) (hown : (yS x).vm.findClass own = some (yM x).cls) (hKn : Kn (yD x) (yS x)) (hlink : (Cond.fieldLinkNest own index ref name desc host).before (yA x) (yS x) = true)
    (hsame : ∀ z, (yS x).fieldFound? decl name desc = some z → (yS x).fieldFound? ref name desc = some z) (hf : fieldAt cs k decl name desc) (hlay : layAt cs decl name desc x) (hty : parseFieldDescriptor desc = some ty) (d : decode cc pc = .ok (.putfield index, 3)) (kk : Snd x (pc + 3) K) : Snd x pc (o_putf cs k ty K) := by
  intro ls st h hk H locs lsC hR hL hl
  unfold o_putf at hk
  split at hk
  · next v a r =>
    split at hk
    · next c vs hσ =>
      obtain ⟨hc, hin, hn, hfi, hk⟩ := hk
      obtain ⟨cell, q1, q2, q3, q4, q5, q6, q7⟩ := hR.2.2.2.2.2 a _ hσ
      obtain ⟨r1, e1, e2, e3, e4, e5⟩ := hf _ (inK_spec hin)
      obtain ⟨cf, kf, fi, fd, g1, g2, g3, g4⟩ := putf_pre hKn e1 (hlay _ (inK_spec hin)).1 e2 e3 e4 e5 ((hlay _ (inK_spec hin)).2 _ e1) hty hn hfi
      have hlt : kd c < 99 := by have := (hlay _ (inK_spec hin)).1; omega
      obtain ⟨r2, f1, f2, f3⟩ := q6 hlt
      have f2 : vs.length = r2.2.2 := f2
      have hks : fd.slot < cell.slots.size := by
        cases Option.some.inj (f1.symm.trans e1)
        obtain ⟨w0, hw0⟩ : ∃ w0, vs[k]? = some w0 := ⟨vs[k]'(by omega), List.getElem?_eq_getElem (by omega)⟩
        rw [g2]; exact k2_hasslot (f3 k w0 hw0)
      refine va_WputK G.1 G.2 (f := fd) hown hlink (hsame _ g1) g3 (by rw [cls_lt q2 hc]; exact g4) q1 (q5 hc).2.1 hks rfl rfl d fun H' z1 z2 z3 => ?_
      rw [g2] at z1
      exact kk _ _ _ hk H' _ lsC (putf_end hKn hR hσ hc e1 e2 q1 z1 z2 z3) (fun z hz => (List.mem_append.mp hz).elim (hL z) (fun q => by rw [List.mem_singleton.mp q]; exact (q5 hc).1)) hl
    · exact hk.elim
  · exact hk.elim
/-- a final field, in its class's own constructor -/
theorem s_putfF {own name desc : String} {index c0 : Nat} {k : Nat} {ty : FieldType} {r0 : vw_C} (G : xB x cc) (hown : (yS x).vm.findClass own = some (yM x).cls) (hKn : Kn (yD x) (yS x)) (hlink : (Cond.fieldLink own index own name desc).before (yA x) (yS x) = true)
    (hinit : x.2.2.1.1.name = "<init>") (hr0 : ckl[c0]? = some r0) (h21 : c0 < 21) (hk0 : k < r0.2.2) (hTk : r0.2.1 k = (own, name, desc, true)) (hlay : (Cond.laysFinal r0.1 own name desc).before (yA x) (yS x) = true) (hty : parseFieldDescriptor desc = some ty) (d : decode cc pc = .ok (.putfield index, 3)) (kk : Snd x (pc + 3) K) : Snd x pc (o_putf [c0] k ty K) := by
  intro ls st h hk H locs lsC hR hL hl
  unfold o_putf at hk
  split at hk
  · next v a r =>
    split at hk
    · next c vs hσ =>
      obtain ⟨hc, hin, hn, hfi, hk⟩ := hk
      have hkc : kd c = c0 := List.mem_singleton.mp (inK_spec hin)
      obtain ⟨cell, q1, q2, q3, q4, q5, q6, q7⟩ := hR.2.2.2.2.2 a _ hσ
      have hlt : kd c < 99 := by omega
      obtain ⟨r2, f1, f2, f3⟩ := q6 hlt
      have f2 : vs.length = r2.2.2 := f2
      have f1 : ckl[kd c]? = some r2 := f1
      have e1 : ckl[kd c]? = some r0 := by rw [hkc]; exact hr0
      obtain ⟨hfc, hsl, -⟩ := hKn.1 _ _ e1
      obtain ⟨cf, kf, fi, fd, g1, g2, g3⟩ := hsl k hk0
      rw [hTk] at g1
      obtain ⟨kC, hkC, hkind⟩ := hKn.2.1 _ _ e1 (by omega)
      have g4 := u_fits (v := v) hfc hkC hkind (Or.inr hlay) g1 hty hn hfi
      have hcf : (yM x).cls = cf := by
        obtain ⟨_, _, c', _, _, _, -, -, hf', -, -, -, hown2, -⟩ := Cond.laysFinal_spec hlay
        have z1 : c' = cf := by have := g1.symm.trans hf'; simp at this; exact this.1.symm
        rw [← z1]; exact Option.some.inj (hown.symm.trans hown2)
      have hks : fd.slot < cell.slots.size := by
        cases Option.some.inj (f1.symm.trans e1)
        obtain ⟨w0, hw0⟩ : ∃ w0, vs[k]? = some w0 := ⟨vs[k]'(by omega), List.getElem?_eq_getElem (by omega)⟩
        rw [g2]; exact k2_hasslot (f3 k w0 hw0)
      refine W.putFinK G.1 G.2 hown hlink g1 g3 hcf hinit (by rw [cls_lt q2 hc]; exact g4) q1 (q5 hc).2.1 hks rfl rfl d fun H' z1 z2 z3 => ?_
      rw [g2] at z1
      exact kk _ _ _ hk H' _ lsC (putf_end hKn hR hσ hc e1 hk0 q1 z1 z2 z3) (fun z hz => (List.mem_append.mp hz).elim (hL z) (fun q => by rw [List.mem_singleton.mp q]; exact (q5 hc).1)) hl
    · exact hk.elim
  · exact hk.elim
/-! arrays -/
theorem arr_of {D : DE} {s : State} (hKn : Kn D s) {k : Nat} {ty : FieldType} (ht : atl[kd k - 100]? = some ty) (h1 : 100 ≤ kd k) {cell : Cell} (hc : cell.cls = D.1 (kd k) ∨ (k = 300 ∧ cell.cls = D.1 108)) (hs : cell.vm.isStatics = false) : s.isArrayOf cell ty := by
  rcases hc with hc | ⟨rfl, hc⟩
  rotate_left
  · cases (Option.some.inj (show some FieldType.int = some ty from ht))
    obtain ⟨-, kA, g1, comp, g2⟩ := hKn.2.2.2.2.2 0 (fun _ => .null)
    exact ⟨fun q h => (by rw [h] at hs; cases hs), kA, by rw [hc]; exact g1, comp, g2⟩
  obtain ⟨h2, -⟩ := hKn.2.2.1 _ _ ht
  obtain ⟨-, kA, g1, comp, g2⟩ := h2 0 (fun _ => .null)
  have e : 100 + (kd k - 100) = kd k := by omega
  rw [e] at g1
  refine ⟨fun q h => (by rw [h] at hs; cases hs), kA, by rw [hc]; exact g1, comp, g2⟩
theorem isRf_of {v : Value} (h : v.isRef = true) : v = .null ∨ ∃ a, v = .ref a := by
  cases v <;> simp [Value.isRef] at h ⊢
/-- the length -/
def o_alen (K : Ct) : Ct := fun ls st h => match st with
  | .ref a :: r => (match h.1 a with | some (c, vs) => 100 ≤ kd c ∧ kd c < 108 ∧ K ls (.int vs.length.toInt32 :: r) h | none => False)
  | _ => False
theorem atl_some {k : Nat} (h1 : 100 ≤ k) (h2 : k < 108) : ∃ ty, atl[k - 100]? = some ty := by
  have h3 : atl.length = 8 := rfl
  exact ⟨atl[k - 100]'(by omega), List.getElem?_eq_getElem (by omega)⟩
theorem s_alen (G : xB x cc) (hKn : Kn (yD x) (yS x)) (d : decode cc pc = .ok (.arraylength, 1)) (kk : Snd x (pc + 1) K) : Snd x pc (o_alen K) := by
  intro ls st h hk H locs lsC hR hL hl
  unfold o_alen at hk
  split at hk
  · next a r =>
    split at hk
    · next c vs hσ =>
      obtain ⟨h1, h2, hk⟩ := hk
      obtain ⟨cell, q1, q2, q3, q4, q5, q6, q7⟩ := hR.2.2.2.2.2 a _ hσ
      obtain ⟨ty, hty⟩ := atl_some h1 h2
      have e7 : cell.slots = vs.toArray := q7 (by show 99 ≤ kd c; omega)
      exact W.alen G.1 G.2 q1 (arr_of hKn hty h1 q2 q4) (by rw [e7]; simp) rfl rfl d (kk _ _ _ hk H locs lsC hR hL hl)
    · exact hk.elim
  · exact hk.elim
/-- reading an element of an array of these kinds -/
def o_ald (cs : List Nat) (K : Ct) : Ct := fun ls st h => match st with
  | .int i :: .ref a :: r => (match h.1 a with | some (c, vs) => inK cs c = true ∧ ¬ i < 0 ∧ (match vs[i.toNatClampNeg]? with | some v => K ls (v :: r) h | none => False) | none => False)
  | _ => False
theorem ald_pre {D : DE} {s0 s : State} {h : HS} {H : Heap} (hKn : Kn D s) (hR : RelH D s0 h H) {a c : Nat} {vs : List Value} (hσ : h.1 a = some (c, vs)) {ty : FieldType} (h1 : 100 ≤ kd c) (hty : atl[kd c - 100]? = some ty) {i : Int32} (hi : ¬ i < 0) {v : Value} (hv : vs[i.toNatClampNeg]? = some v) :
    ∃ cell : Cell, H[a]? = some cell ∧ s.isArrayOf cell ty ∧ cell.vm ≠ .unknown ∧ (¬ (i < 0 ∨ cell.slots.size ≤ i.toNatClampNeg)) ∧ cell.slots[i.toNatClampNeg]? = some v := by
  obtain ⟨cell, q1, q2, q3, q4, q5, q6, q7⟩ := hR.2.2.2.2.2 a _ hσ
  have e7 : cell.slots = vs.toArray := q7 (by show 99 ≤ kd c; omega)
  refine ⟨cell, q1, arr_of hKn hty h1 q2 q4, q3, ?_, by rw [e7]; simpa using hv⟩
  rintro (q | q)
  · exact hi q
  · have := (List.getElem?_eq_some_iff.mp hv).1
    rw [e7] at q
    simp at q
    omega
theorem s_iald (G : xB x cc) (hKn : Kn (yD x) (yS x)) (d : decode cc pc = .ok (.iaload, 1)) (kk : Snd x (pc + 1) K) : Snd x pc (o_ald [100] K) := by
  intro ls st h hk H locs lsC hR hL hl
  unfold o_ald at hk
  split at hk
  · next i a r =>
    split at hk
    · next c vs hσ =>
      obtain ⟨hin, hi, hk⟩ := hk
      split at hk
      · next v hv =>
        have e : kd c = 100 := List.mem_singleton.mp (inK_spec hin)
        obtain ⟨cell, q1, q2, q3, q4, q5⟩ := ald_pre hKn hR hσ (by omega) (by rw [e]; rfl) hi hv
        exact W.iald G.1 G.2 q1 q2 q3 q4 q5 rfl rfl d (kk _ _ _ hk H locs lsC hR hL hl)
      · exact hk.elim
    · exact hk.elim
  · exact hk.elim
theorem s_bald (G : xB x cc) (hKn : Kn (yD x) (yS x)) (d : decode cc pc = .ok (.baload, 1)) (kk : Snd x (pc + 1) K) : Snd x pc (o_ald [101, 102] K) := by
  intro ls st h hk H locs lsC hR hL hl
  unfold o_ald at hk
  split at hk
  · next i a r =>
    split at hk
    · next c vs hσ =>
      obtain ⟨hin, hi, hk⟩ := hk
      split at hk
      · next v hv =>
        have e := inK_spec hin
        simp only [List.mem_cons, List.not_mem_nil, or_false] at e
        rcases e with e | e
        · obtain ⟨cell, q1, q2, q3, q4, q5⟩ := ald_pre hKn hR hσ (by omega) (by rw [e]; rfl) hi hv
          exact W.zald G.1 G.2 q1 q2 q3 q4 q5 rfl rfl d (kk _ _ _ hk H locs lsC hR hL hl)
        · obtain ⟨cell, q1, q2, q3, q4, q5⟩ := ald_pre hKn hR hσ (by omega) (by rw [e]; rfl) hi hv
          exact W.bald G.1 G.2 q1 q2 q3 q4 q5 rfl rfl d (kk _ _ _ hk H locs lsC hR hL hl)
      · exact hk.elim
    · exact hk.elim
  · exact hk.elim
theorem refKind {k : Nat} (h : k ∈ [103, 104, 105, 106, 107]) : 100 ≤ k ∧ ∃ C, atl[k - 100]? = some (.object C) := by
  simp only [List.mem_cons, List.not_mem_nil, or_false] at h
  rcases h with rfl | rfl | rfl | rfl | rfl <;> exact ⟨by decide, _, rfl⟩
theorem s_aald (G : xB x cc) (hKn : Kn (yD x) (yS x)) (d : decode cc pc = .ok (.aaload, 1)) (kk : Snd x (pc + 1) K) : Snd x pc (o_ald [103, 104, 105, 106, 107] K) := by
  intro ls st h hk H locs lsC hR hL hl
  unfold o_ald at hk
  split at hk
  · next i a r =>
    split at hk
    · next c vs hσ =>
      obtain ⟨hin, hi, hk⟩ := hk
      split at hk
      · next v hv =>
        obtain ⟨h1, C, hC⟩ := refKind (inK_spec hin)
        obtain ⟨cell, q1, q2, q3, q4, q5⟩ := ald_pre hKn hR hσ h1 hC hi hv
        exact W.aald (ty := .object C) G.1 G.2 q1 q2 rfl q3 q4 q5 rfl rfl d (kk _ _ _ hk H locs lsC hR hL hl)
      · exact hk.elim
    · exact hk.elim
  · exact hk.elim
/-- where a store into an array ends -/
theorem ast_end {D : DE} {s0 : State} {h : HS} {H H' : Heap} {a c i : Nat} {vs : List Value} {v : Value} {cell : Cell} (hR : RelH D s0 h H) (hσ : h.1 a = some (c, vs)) (hc : c < 200) (h1 : 100 ≤ kd c)
    (hcell : H[a]? = some cell) (hH : H'[a]? = some (cell.setSlot i v)) (hz : H'.size = H.size) (ho : ∀ q, q ≠ a → H'[q]? = H[q]?) : RelH D s0 (hset h a (c, vs.set i v)) H' := by
  obtain ⟨cell2, q1, q2, q3, q4, q5, q6, q7⟩ := hR.2.2.2.2.2 a _ hσ
  cases Option.some.inj (q1.symm.trans hcell)
  have e7 : cell.slots = vs.toArray := q7 (by show 99 ≤ kd c; omega)
  refine hR.put hσ hc hcell hH hz ho (k2_slotsz _ _ _) ⟨_, hH, q2, q3, q4, fun _ => q5 hc, fun q => by exfalso; have : kd c < 99 := q; omega, fun _ => ?_⟩
  show (cell.slots.setIfInBounds i v) = (vs.set i v).toArray
  rw [e7]
  simp
/-- storing into an array of ints, of booleans, of bytes -/
def o_ast (cs : List (Nat × FieldType)) (K : Ct) : Ct := fun ls st h => match st with
  | .int z :: .int i :: .ref a :: r => (match h.1 a with | some (c, vs) => (∃ q ∈ cs, q.1 = c ∧ narrow q.2 (.int z) = .int z) ∧ ¬ i < 0 ∧ i.toNatClampNeg < vs.length ∧ K ls r (hset h a (c, vs.set i.toNatClampNeg (.int z))) | none => False)
  | _ => False
theorem ast_pre {D : DE} {s0 s : State} {h : HS} {H : Heap} (hKn : Kn D s) (hR : RelH D s0 h H) {a c : Nat} {vs : List Value} (hσ : h.1 a = some (c, vs)) {ty : FieldType} (hc : c < 200) (h1 : 100 ≤ kd c) (hty : atl[kd c - 100]? = some ty) {i : Int32} (hi : ¬ i < 0) (hv : i.toNatClampNeg < vs.length) :
    ∃ cell : Cell, H[a]? = some cell ∧ s.isArrayOf cell ty ∧ cell.vm ≠ .unknown ∧ (¬ (i < 0 ∨ cell.slots.size ≤ i.toNatClampNeg)) ∧ s0.heap.size ≤ a := by
  obtain ⟨cell, q1, q2, q3, q4, q5, q6, q7⟩ := hR.2.2.2.2.2 a _ hσ
  have e7 : cell.slots = vs.toArray := q7 (by show 99 ≤ kd c; omega)
  refine ⟨cell, q1, arr_of hKn hty h1 q2 q4, q3, ?_, (q5 hc).1⟩
  rintro (q | q)
  · exact hi q
  · rw [e7] at q
    simp at q
    omega
theorem s_iast (G : xB x cc) (hKn : Kn (yD x) (yS x)) (d : decode cc pc = .ok (.iastore, 1)) (kk : Snd x (pc + 1) K) : Snd x pc (o_ast [(100, .int)] K) := by
  intro ls st h hk H locs lsC hR hL hl
  unfold o_ast at hk
  split at hk
  · next z i a r =>
    split at hk
    · next c vs hσ =>
      obtain ⟨⟨q, hq, rfl, hn⟩, hi, hlt, hk⟩ := hk
      cases List.mem_singleton.mp hq
      obtain ⟨cell, q1, q2, q3, q4, q5⟩ := ast_pre hKn hR hσ (by decide) (by decide) rfl hi hlt
      refine W.iast G.1 G.2 q1 q2 q3 q4 rfl rfl d fun H' z1 z2 z3 => ?_
      exact kk _ _ _ hk H' _ lsC (ast_end hR hσ (by decide) (by decide) q1 z1 z2 z3) (fun z hz => (List.mem_append.mp hz).elim (hL z) (fun q => by rw [List.mem_singleton.mp q]; exact q5)) hl
    · exact hk.elim
  · exact hk.elim
theorem s_bast (G : xB x cc) (hKn : Kn (yD x) (yS x)) (d : decode cc pc = .ok (.bastore, 1)) (kk : Snd x (pc + 1) K) : Snd x pc (o_ast [(101, .boolean), (102, .byte)] K) := by
  intro ls st h hk H locs lsC hR hL hl
  unfold o_ast at hk
  split at hk
  · next z i a r =>
    split at hk
    · next c vs hσ =>
      obtain ⟨⟨q, hq, rfl, hn⟩, hi, hlt, hk⟩ := hk
      simp only [List.mem_cons, List.not_mem_nil, or_false] at hq
      rcases hq with rfl | rfl
      · obtain ⟨cell, q1, q2, q3, q4, q5⟩ := ast_pre hKn hR hσ (by decide) (by decide) rfl hi hlt
        refine W.zast G.1 G.2 q1 q2 q3 q4 rfl rfl d fun H' z1 z2 z3 => ?_
        rw [hn] at z1
        exact kk _ _ _ hk H' _ lsC (ast_end hR hσ (by decide) (by decide) q1 z1 z2 z3) (fun z hz => (List.mem_append.mp hz).elim (hL z) (fun q => by rw [List.mem_singleton.mp q]; exact q5)) hl
      · obtain ⟨cell, q1, q2, q3, q4, q5⟩ := ast_pre hKn hR hσ (by decide) (by decide) rfl hi hlt
        refine W.bast G.1 G.2 q1 q2 q3 q4 rfl rfl d fun H' z1 z2 z3 => ?_
        rw [hn] at z1
        exact kk _ _ _ hk H' _ lsC (ast_end hR hσ (by decide) (by decide) q1 z1 z2 z3) (fun z hz => (List.mem_append.mp hz).elim (hL z) (fun q => by rw [List.mem_singleton.mp q]; exact q5)) hl
    · exact hk.elim
  · exact hk.elim
/-- storing a reference -/
def o_aast (K : Ct) : Ct := fun ls st h => match st with
  | w :: .int i :: .ref a :: r => (match h.1 a with
    | some (c, vs) => c < 200 ∧ inK [103, 104, 105, 106, 107] c = true ∧ ¬ i < 0 ∧ i.toNatClampNeg < vs.length ∧
        (match w with | .null => True | .ref b => (match h.1 b with | some (cb, _) => (kd cb, kd c) ∈ stab | none => False) | _ => False) ∧ K ls r (hset h a (c, vs.set i.toNatClampNeg w))
    | none => False)
  | _ => False
theorem s_aast (G : xB x cc) (hKn : Kn (yD x) (yS x)) (d : decode cc pc = .ok (.aastore, 1)) (kk : Snd x (pc + 1) K) : Snd x pc (o_aast K) := by
  intro ls st h hk H locs lsC hR hL hl
  unfold o_aast at hk
  split at hk
  · next w i a r =>
    split at hk
    · next c vs hσ =>
      obtain ⟨hc, hin, hi, hlt, hw, hk⟩ := hk
      obtain ⟨h1, C, hC⟩ := refKind (inK_spec hin)
      obtain ⟨cell, q1, q2, q3, q4, q5⟩ := ast_pre hKn hR hσ hc h1 hC hi hlt
      cases w with
      | null =>
        refine va_WaastN G.1 G.2 q1 q2 q3 q4 rfl rfl d fun H' z1 z2 z3 => ?_
        exact kk _ _ _ hk H' _ lsC (ast_end hR hσ hc h1 q1 z1 z2 z3) (fun z hz => (List.mem_append.mp hz).elim (hL z) (fun q => by rw [List.mem_singleton.mp q]; exact q5)) hl
      | ref b =>
        have hw : (match h.1 b with | some (cb, _) => (kd cb, kd c) ∈ stab | none => False) := hw
        split at hw
        · next cb ws hb =>
          obtain ⟨cv, r1, r2, r3, r4, r5, r6, r7⟩ := hR.2.2.2.2.2 b _ hb
          obtain ⟨C2, hC2, -, hct⟩ := stab_ok _ hw
          have hC2 : atl[kd c - 100]? = some (.object C2) := hC2
          have r2 := cls_ne r2 (stab_ne _ hw)
          rw [hC] at hC2
          cases hC2
          obtain ⟨t, ht1, ht2, c9, r9⟩ := hKn.2.2.2.1 _ hct
          obtain ⟨-, kA, comp, m1, m2, m3, m4⟩ := hKn.2.2.1 _ _ hC
          have e100 : 100 + (kd c - 100) = kd c := by omega
          rw [e100] at m1
          cases Option.some.inj (m3.symm.trans ht1)
          obtain ⟨kcomp, hkcomp, -⟩ := Vm.findClass_spec ht1
          refine W.aast G.1 G.2 q1 q2.1 q3 (by obtain ⟨c2, y1, y2, -⟩ := hR.2.2.2.2.2 a _ hσ; cases Option.some.inj (q1.symm.trans y1); rw [cls_lt y2 hc]; exact m1) m2 rfl hkcomp ⟨hi, Nat.not_le.mp fun q => q4 (Or.inr q)⟩ r1 (fun q h => by rw [h] at r4; cases r4) (by rw [r2]; exact r9) (by rw [r2]; exact ht2) rfl rfl d fun H' z1 z2 z3 => ?_
          exact kk _ _ _ hk H' _ lsC (ast_end hR hσ hc h1 q1 z1 z2 z3) (fun z hz => (List.mem_append.mp hz).elim (hL z) (fun q => by rw [List.mem_singleton.mp q]; exact q5)) hl
        · exact hw.elim
      | _ => exact hw.elim
    · exact hk.elim
  · exact hk.elim
end HEAP
