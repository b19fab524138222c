/-! THE ABSTRACT INSTRUCTIONS that make cells, cast, read statics and constants -/
set_option maxRecDepth 100000
section MAKE
variable {x : CX} {cc : ByteArray} {pc : Nat} {K T : Ct}
/-- the room of the method is all that is left, its start is abstract -/
abbrev GR (x : CX) : Prop := RelH x.2.2.2.1.1 x.2.2.2.1.2.1 x.2.2.2.1.2.2 x.2.1.1.heap ∧ x.1.2.2.2.cells = x.2.2.2.1.2.2.2.2.1 ∧ x.1.2.2.2.slots = x.2.2.2.1.2.2.2.2.2
theorem aW_le {H : Heap} {locs : List Loc} {ce sl : Nat} {g : JFrame} {h : HS} (hg : GR x) (hR : RelH x.2.2.2.1.1 x.2.2.2.1.2.1 h H)
    (k : h.2.2.1 ≤ x.2.2.2.1.2.2.2.2.1 → h.2.2.2 ≤ x.2.2.2.1.2.2.2.2.2 → aW x H locs ce sl g) : aW x H locs ce sl g := by
  intro T hT X
  obtain ⟨a1, a2, a3, a4, a5, a6⟩ := hg.1
  obtain ⟨b1, b2, b3, b4, b5, b6⟩ := id hR
  obtain ⟨q1, q2, q3, q4, q5, q6⟩ := X.same
  have q2' : x.2.1.1.heap.size ≤ T.heap.size := q2
  rw [hT] at q2'
  have hsp : slotSum x.2.2.2.1.2.1.heap.size T.heap = slotSum x.2.2.2.1.2.1.heap.size x.2.1.1.heap + ((T.heap.toList.drop x.2.1.1.heap.size).map (·.slots.size)).sum :=
    slotSum_split a2 q2 (fun a c hc => by obtain ⟨c', r1, r2, r3, r4⟩ := q6 a c hc; exact ⟨c', r1, r3⟩)
  rw [hT] at hsp
  exact k (by omega) (by omega) T hT X
/-- a new object -/
def o_new (c n : Nat) (vs : List Value) (K : Ct) : Ct := fun ls st h => 1 ≤ h.2.2.1 ∧ n ≤ h.2.2.2 ∧ K ls (.ref h.2.1 :: st) (hnew h (c, vs) n)
theorem s_new {own C : String} {index c n N : Nat} {T0 : u_T} {vs : List Value} (G : xB x cc) (hown : (yS x).vm.findClass own = some (yM x).cls) (hKn : Kn (yD x) (yS x)) (hg : GR x) (hts : ∀ w ∈ lw_all, w.before (yA x) (yS x) = true)
    (hr : ckl[c]? = some (C, T0, N)) (h21 : c < 21) (hin : ∀ w ∈ u_ws C T0 N, w ∈ lw_all) (hcl : Cond.classLink own index C ∈ lw_all) (hins : Cond.instantiable C n ∈ lw_all) (hini : Cond.initialized C ∈ lw_all)
    (ty : Nat → FieldType) (hty : ∀ k, k < N → parseFieldDescriptor (T0 k).2.2.1 = some (ty k)) (hvs : vs = (List.range N).map (fun j => defaultValue (ty j))) (d : decode cc pc = .ok (.new index, 3)) (kk : Snd x (pc + 3) K) : Snd x pc (o_new c n vs K) := by
  intro ls st h hk H locs lsC hR hL hl
  obtain ⟨h1, h2, hk⟩ := hk
  refine aW_le hg hR fun e1 e2 => ?_
  refine W.newc G.1 G.2 hown (hts _ hcl) (hts _ hins) (hts _ hini) rfl d (by have := hg.2.1; omega) (by have := hg.2.2; omega) fun cC kC g1 g2 g3 g4 => ?_
  obtain ⟨hfc, hsl, hap⟩ := hKn.1 _ _ hr
  have hcC : cC = (yD x).1 c := Option.some.inj (g1.symm.trans hfc)
  subst hcC
  have hkd : kd c = c := by unfold kd; omega
  have hsz : ({ cls := (yD x).1 c, slots := kC.instanceTypes.map defaultValue, vm := .none } : Cell).slots.size = n := by simpa using g4
  have hR' : RelH x.2.2.2.1.1 x.2.2.2.1.2.1 (hnew h (c, vs) n) (H.push { cls := (yD x).1 c, slots := kC.instanceTypes.map defaultValue, vm := .none }) := by
    have := hR.push (o := (c, vs)) (cell := { cls := (yD x).1 c, slots := kC.instanceTypes.map defaultValue, vm := .none }) h1 (by rw [hsz]; exact h2) ?_
    · rw [hsz] at this; exact this
    · refine ⟨{ cls := (yD x).1 c, slots := kC.instanceTypes.map defaultValue, vm := .none }, by simp, Or.inl (by show (yD x).1 c = (yD x).1 (kd c); rw [hkd]), fun q => (by cases q), rfl, fun _ => ⟨hR.2.1, rfl, rfl, rfl⟩, fun _ => ⟨_, by show ckl[kd c]? = _; rw [hkd]; exact hr, by rw [hvs]; simp, fun j v hj => ?_⟩, fun q => by exfalso; have : 99 ≤ kd c := q; omega⟩
      have hj : vs[j]? = some v := hj
      have hjN : j < N := by
        have := (List.getElem?_eq_some_iff.mp hj).1
        rw [hvs] at this; simpa using this
      rw [hvs] at hj
      simp only [List.getElem?_map, List.getElem?_range hjN, Option.map_some, Option.some.injEq] at hj
      obtain ⟨cf, kf, fi, fd, y1, y2, y3⟩ := hsl j hjN
      have y4 := (u_facts g1 g2 (u_lays hts hin hjN) y1).2.2
      rw [(State.fieldFound?_type y1 (hty j hjN)).2] at y4
      show (kC.instanceTypes.map defaultValue)[(yD x).2 (kd c) j]? = some v
      rw [hkd, ← y2, ← hj]
      simp [y4]
  have hnx : H.size = h.2.1 := hR.1
  rw [hnx]
  exact aW_tight hg.1 hR' (kk _ _ _ hk _ locs lsC hR' hL hl)
/-- a new array -/
def o_newa (c : Nat) (dv : Value) (K : Ct) : Ct := fun ls st h => match st with
  | .int n :: r => ¬ n < 0 ∧ n.toNatClampNeg ≤ 100000000 ∧ 1 ≤ h.2.2.1 ∧ n.toNatClampNeg ≤ h.2.2.2 ∧ K ls (.ref h.2.1 :: r) (hnew h (c, List.replicate n.toNatClampNeg dv) n.toNatClampNeg)
  | _ => False
theorem newa_end {D : DE} {s0 s : State} {h : HS} {H : Heap} (hR : RelH D s0 h H) {c n : Nat} {dv : Value} (h1 : 100 ≤ c) (h2 : c < 108) (e1 : 1 ≤ h.2.2.1) (e2 : n ≤ h.2.2.2) : RelH D s0 (hnew h (c, List.replicate n dv) n) (H.push { cls := D.1 c, slots := Array.replicate n dv, vm := .none }) := by
  have hkd : kd c = c := by unfold kd; omega
  have := hR.push (o := (c, List.replicate n dv)) (cell := { cls := D.1 c, slots := Array.replicate n dv, vm := .none }) e1 (by simpa using e2) ?_
  · simpa using this
  · refine ⟨{ cls := D.1 c, slots := Array.replicate n dv, vm := .none }, by simp, Or.inl (by show D.1 c = D.1 (kd c); rw [hkd]), fun q => (by cases q), rfl, fun _ => ⟨hR.2.1, rfl, rfl, rfl⟩, fun q => by exfalso; have : kd c < 99 := q; omega, fun _ => by simp⟩
theorem s_newa {atype : ArrayType} {c : Nat} {dv : Value} (G : xB x cc) (hKn : Kn (yD x) (yS x)) (hg : GR x) (hts : ∀ w ∈ lw_all, w.before (yA x) (yS x) = true) (harr : Cond.arrayClass (newarray.typeOf atype) ∈ lw_all)
    (h1 : 100 ≤ c) (h2 : c < 108) (hc : atl[c - 100]? = some (newarray.typeOf atype)) (hnr : ∀ C, newarray.typeOf atype ≠ .object C) (hb : componentBytes (newarray.typeOf atype) ≤ 4) (hdv : defaultValue (newarray.typeOf atype) = dv) (d : decode cc pc = .ok (.newarray atype, 2)) (kk : Snd x (pc + 2) K) : Snd x pc (o_newa c dv K) := by
  intro ls st h hk H locs lsC hR hL hl
  unfold o_newa at hk
  split at hk
  · next n r =>
    obtain ⟨z1, z2, z3, z4, hk⟩ := hk
    refine aW_le hg hR fun e1 e2 => ?_
    refine W.newa G.1 G.2 (hts _ harr) rfl d rfl z1 ?_ (by have := hg.2.1; omega) (by have := hg.2.2; omega) fun cA kA comp g1 g2 g3 => ?_
    · have := Nat.mul_le_mul z2 hb
      omega
    obtain ⟨-, hra⟩ := hKn.2.2.1 _ _ hc
    have e : 100 + (c - 100) = c := by omega
    rw [e] at hra
    have hcA : cA = (yD x).1 c := by
      cases hty : newarray.typeOf atype with
      | object C => exact absurd hty (hnr C)
      | _ => rw [hty] at hra g1; exact Option.some.inj (g1.symm.trans hra)
    subst hcA
    have hR' := newa_end (s := yS x) (dv := dv) hR h1 h2 z3 z4
    have hnx : H.size = h.2.1 := hR.1
    rw [hnx, hdv]
    exact aW_tight hg.1 hR' (kk _ _ _ hk _ locs lsC hR' hL hl)
  · exact hk.elim
theorem s_anewa {own C : String} {index c : Nat} (G : xB x cc) (hown : (yS x).vm.findClass own = some (yM x).cls) (hKn : Kn (yD x) (yS x)) (hg : GR x) (hts : ∀ w ∈ lw_all, w.before (yA x) (yS x) = true) (hcl : Cond.classLink own index C ∈ lw_all) (hover : va_AO C (yS x))
    (h1 : 100 ≤ c) (h2 : c < 108) (hc : atl[c - 100]? = some (.object C)) (d : decode cc pc = .ok (.anewarray index, 3)) (kk : Snd x (pc + 3) K) : Snd x pc (o_newa c .null K) := by
  intro ls st h hk H locs lsC hR hL hl
  unfold o_newa at hk
  split at hk
  · next n r =>
    obtain ⟨z1, z2, z3, z4, hk⟩ := hk
    refine aW_le hg hR fun e1 e2 => ?_
    refine W.anew G.1 G.2 hown (hts _ hcl) (va_AO.use hover) rfl d rfl z1 (by omega) (by have := hg.2.1; omega) (by have := hg.2.2; omega) fun cA kA comp g1 g2 g3 g4 => ?_
    obtain ⟨-, kA2, comp2, m1, m2, m3, m4⟩ := hKn.2.2.1 _ _ hc
    have e : 100 + (c - 100) = c := by omega
    rw [e] at m4
    have hcA : cA = (yD x).1 c := Option.some.inj (g1.symm.trans m4)
    subst hcA
    have hR' := newa_end (s := yS x) (dv := .null) hR h1 h2 z3 z4
    have hnx : H.size = h.2.1 := hR.1
    rw [hnx]
    exact aW_tight hg.1 hR' (kk _ _ _ hk _ locs lsC hR' hL hl)
  · exact hk.elim
/-- checkcast -/
def o_cast (cs : List Nat) (K : Ct) : Ct := fun ls st h => match st with
  | .null :: r => K ls (.null :: r) h
  | .ref a :: r => (match h.1 a with | some (c, _) => inK cs c = true ∧ K ls (.ref a :: r) h | none => False)
  | _ => False
theorem s_cast {own nm : String} {index : Nat} {cs : List Nat} (G : xB x cc) (hown : (yS x).vm.findClass own = some (yM x).cls) (hKn : Kn (yD x) (yS x)) (hts : ∀ w ∈ lw_all, w.before (yA x) (yS x) = true) (hcl : Cond.classLink own index nm ∈ lw_all)
    (hcs : ∀ c ∈ cs, (c, nm) ∈ ctab) (d : decode cc pc = .ok (.checkcast index, 3)) (kk : Snd x (pc + 3) K) : Snd x pc (o_cast cs K) := by
  intro ls st h hk H locs lsC hR hL hl
  unfold o_cast at hk
  split at hk
  · exact lv_castN G.1 G.2 d (kk _ _ _ hk H locs lsC hR hL hl)
  · next a r =>
    split at hk
    · next c vs hσ =>
      obtain ⟨hin, hk⟩ := hk
      obtain ⟨cell, q1, q2, q3, q4, -⟩ := hR.2.2.2.2.2 a _ hσ
      obtain ⟨t, t1, t2, -⟩ := hKn.2.2.2.1 _ (hcs _ (inK_spec hin))
      have q2 := cls_ne q2 (ctab_ne _ (hcs _ (inK_spec hin)))
      have k9 := kk _ _ _ hk H locs lsC hR hL hl
      intro T hT X
      obtain ⟨vm', X', st'⟩ := X.checkcastYes G.1 hown (hts _ hcl) (by rw [hT]; exact q1) q4 t1 (by rw [q2]; exact t2) (g := F0 (yM x) pc lsC (.ref a :: r)) rfl rfl (by rw [G.2]; exact d)
      obtain ⟨t9, a1, b1⟩ := k9 (T.setVm vm') hT X'
      exact ⟨t9, st' t9 a1, b1⟩
    · exact hk.elim
  · exact hk.elim
/-- instanceof: the kinds that are, the kinds that aren't -/
def o_inst (ys ns : List Nat) (K : Ct) : Ct := fun ls st h => match st with
  | .null :: r => K ls (.int 0 :: r) h
  | .ref a :: r => (match h.1 a with | some (c, _) => if inK ys c = true then K ls (.int 1 :: r) h else inK ns c = true ∧ K ls (.int 0 :: r) h | none => False)
  | _ => False
theorem s_inst {own nm : String} {index : Nat} {ys ns : List Nat} (G : xB x cc) (hown : (yS x).vm.findClass own = some (yM x).cls) (hKn : Kn (yD x) (yS x)) (hts : ∀ w ∈ lw_all, w.before (yA x) (yS x) = true) (hcl : Cond.classLink own index nm ∈ lw_all)
    (hys : ∀ c ∈ ys, (c, nm) ∈ ctab) (hns : ∀ c ∈ ns, (c, nm) ∈ ntab ∧ c < 23) (d : decode cc pc = .ok (.instanceof index, 3)) (kk : Snd x (pc + 3) K) : Snd x pc (o_inst ys ns K) := by
  intro ls st h hk H locs lsC hR hL hl
  unfold o_inst at hk
  split at hk
  · exact lv_instN G.1 G.2 d (kk _ _ _ hk H locs lsC hR hL hl)
  · next a r =>
    split at hk
    · next c vs hσ =>
      obtain ⟨cell, q1, q2, q3, q4, q5, q6, -⟩ := hR.2.2.2.2.2 a _ hσ
      split at hk
      · next hin =>
        obtain ⟨t, t1, t2, -⟩ := hKn.2.2.2.1 _ (hys _ (inK_spec hin))
        have q2 := cls_ne q2 (ctab_ne _ (hys _ (inK_spec hin)))
        have k9 := kk _ _ _ hk H locs lsC hR hL hl
        intro T hT X
        obtain ⟨vm', X', st'⟩ := X.instanceofYes G.1 hown (hts _ hcl) (by rw [hT]; exact q1) q4 t1 (by rw [q2]; exact t2) (g := F0 (yM x) pc lsC (.ref a :: r)) rfl rfl (by rw [G.2]; exact d)
        obtain ⟨t9, a1, b1⟩ := k9 (T.setVm vm') hT X'
        exact ⟨t9, st' t9 a1, b1⟩
      · obtain ⟨hin, hk⟩ := hk
        obtain ⟨n1, n2⟩ := hns _ (inK_spec hin)
        obtain ⟨t, t1, t2⟩ := hKn.2.2.2.2.1 _ n1
        have q2 := cls_ne q2 (by show kd c ≠ 100; omega)
        have k9 := kk _ _ _ hk H locs lsC hR hL hl
        obtain ⟨r2, f1, -⟩ := q6 (by show kd c < 99; omega)
        obtain ⟨ks, hks, -⟩ := Vm.findClass_spec (hKn.1 _ _ f1).1
        intro T hT X
        obtain ⟨vm', X', st'⟩ := va_instofNo X G.1 hown (hts _ hcl) (by rw [hT]; exact q1) q4 (by rw [q2]; exact hks) t1 (by rw [q2]; exact t2) (g := F0 (yM x) pc lsC (.ref a :: r)) rfl rfl (by rw [G.2]; exact d)
        obtain ⟨t9, a1, b1⟩ := k9 (T.setVm vm') hT X'
        exact ⟨t9, st' t9 a1, b1⟩
    · exact hk.elim
  · exact hk.elim
/-- a static field, whose value is known -/
theorem s_gets {own C ref n dd : String} {index : Nat} {v : Value} (G : xB x cc) (hown : (yS x).vm.findClass own = some (yM x).cls) (hlink : (Cond.fieldLink own index ref n dd).before (yA x) (yS x) = true)
    (hsame : ∀ z, (yS x).fieldFound? C n dd = some z → (yS x).fieldFound? ref n dd = some z) (hZ : va_Z C n dd v (fun q => x.2.2.2.1.2.1.heap.size ≤ q) (yS x) x.2.2.2.1.2.1.heap) (d : decode cc pc = .ok (.getstatic index, 3)) (kk : Snd x (pc + 3) K) : Snd x pc (o_push v K) := by
  intro ls st h hk H locs lsC hR hL hl
  obtain ⟨cf, kf, fi, f, a, cell, h1, h2, h3, h4, h5, h6, h7, h8⟩ := hZ
  have ha : H[a]? = some cell := by rw [hR.2.2.2.2.1 a (Nat.not_le.mp h8)]; exact h5
  exact W.gets G.1 G.2 hown hlink (hsame _ h1) h2 h3 h4 ha (fun q => by rw [q] at h6; cases h6) h7 rfl d (kk _ _ _ hk H locs lsC hR hL hl)
theorem s_getsN {own C ref n dd host : String} {index : Nat} {v : Value} (G : xB x cc) (hown : (yS x).vm.findClass own = some (yM x).cls) (hlink : (Cond.fieldLinkNest own index ref n dd host).before (yA x) (yS x) = true)
    (hsame : ∀ z, (yS x).fieldFound? C n dd = some z → (yS x).fieldFound? ref n dd = some z) (hZ : va_Z C n dd v (fun q => x.2.2.2.1.2.1.heap.size ≤ q) (yS x) x.2.2.2.1.2.1.heap) (d : decode cc pc = .ok (.getstatic index, 3)) (kk : Snd x (pc + 3) K) : Snd x pc (o_push v K) := by
  intro ls st h hk H locs lsC hR hL hl
  obtain ⟨cf, kf, fi, f, a, cell, h1, h2, h3, h4, h5, h6, h7, h8⟩ := hZ
  have ha : H[a]? = some cell := by rw [hR.2.2.2.2.1 a (Nat.not_le.mp h8)]; exact h5
  exact va_WgetsN G.1 G.2 hown hlink (hsame _ h1) h2 h3 h4 ha (fun q => by rw [q] at h6; cases h6) h7 rfl d (kk _ _ _ hk H locs lsC hR hL hl)
/-- a string constant -/
theorem s_ldcS {own tx : String} {index q : Nat} (G : xB x cc) (hown : (yS x).vm.findClass own = some (yM x).cls) (hZ : vk_R own index tx q (yS x)) (d : decode cc pc = .ok (.ldc index, 2)) (kk : Snd x (pc + 2) K) : Snd x pc (o_push (.ref q) K) := by
  intro ls st h hk H locs lsC hR hL hl
  exact va_ldcS G.1 G.2 hown hZ d (kk _ _ _ hk H locs lsC hR hL hl)
/-- an int constant -/
theorem s_ldcI {own : String} {index : Nat} {v : Int32} (G : xB x cc) (hown : (yS x).vm.findClass own = some (yM x).cls) (hts : ∀ w ∈ lw_all, w.before (yA x) (yS x) = true) (hc : Jvm.Cond.constant own index v ∈ lw_all) (d : decode cc pc = .ok (.ldc index, 2)) (kk : Snd x (pc + 2) K) : Snd x pc (o_push (.int v) K) := by
  intro ls st h hk H locs lsC hR hL hl
  exact lv_ldc G.1 G.2 hown (hts _ hc) d (kk _ _ _ hk H locs lsC hR hL hl)
/-- Object.<init> -/
def o_objInit (K : Ct) : Ct := fun ls st h => match st with | .ref _ :: r => (r.map fun v => v.category).sum ≤ 8 ∧ K ls r h | _ => False
theorem s_objInit {own : String} {idx : Nat} (G : xB x cc) (hown : (yS x).vm.findClass own = some (yM x).cls) (hts : ∀ w ∈ lw_all, w.before (yA x) (yS x) = true) (h1 : Cond.methodLink own idx Lib.objectInit ∈ lw_all) (h2 : Cond.instanceMethod Lib.objectInit ∈ lw_all) (h3 : Cond.code Lib.objectInit ⟨#[0xb1]⟩ 1 none ∈ lw_all)
    (hml : x.2.2.1.2.1.maxLocals = x.2.2.2.2.1) (hf : 1 ≤ x.1.2.2.2.frames) (hlo : 20 ≤ x.1.2.2.2.locals) (d : decode cc pc = .ok (.invokespecial idx, 3)) (kk : Snd x (pc + 3) K) : Snd x pc (o_objInit K) := by
  intro ls st h hk H locs lsC hR hL hl
  unfold o_objInit at hk
  split at hk
  · next a r =>
    obtain ⟨hc, hk⟩ := hk
    exact W.objInit G.1 G.2 hown (hts _ h1) (hts _ h2) (hts _ h3) rfl (by rw [hml]; exact hl.1) rfl d hf (by show 2 * 0 + _ + 12 ≤ _; omega) (kk _ _ _ hk H locs lsC hR hL hl)
  · exact hk.elim
end MAKE
