/-! THE SPECIAL ROWS (1): arraycopy, clone -/
set_option maxRecDepth 100000
theorem i32_nn (z : Int32) (hz : ¬ z < 0) : z.toInt = (z.toNatClampNeg : Int) := by
  have hz0 : (0 : Int) ≤ z.toInt := by
    have := Int32.not_lt.mp hz
    simpa using Int32.le_iff_toInt_le.mp this
  show z.toInt = ((z.toInt.toNat : Nat) : Int)
  omega
/-- what stands in an array of bytes after a copy into it -/
theorem copied_list {cs cd : Cell} {us vs : List Value} {sp dp n : Int32} (e0 : cs.slots = us.toArray) (e1 : cd.slots = vs.toArray) (h4 : sp.toNatClampNeg + n.toNatClampNeg ≤ us.length) (h5 : dp.toNatClampNeg + n.toNatClampNeg ≤ vs.length) :
    (copied cs cd sp dp n).slots = (vs.take dp.toNatClampNeg ++ (us.drop sp.toNatClampNeg).take n.toNatClampNeg ++ vs.drop (dp.toNatClampNeg + n.toNatClampNeg)).toArray := by
  have es : cs.stretch sp.toNatClampNeg n.toNatClampNeg = (us.drop sp.toNatClampNeg).take n.toNatClampNeg := by
    apply List.ext_getElem?
    intro i
    unfold Cell.stretch
    rw [List.getElem?_map, List.getElem?_take, List.getElem?_drop]
    by_cases hi : i < n.toNatClampNeg
    · rw [List.getElem?_range hi, if_pos hi, e0, Option.map_some, Array.getD_eq_getD_getElem?]
      have hl : sp.toNatClampNeg + i < us.length := by omega
      simp [hl]
    · rw [List.getElem?_eq_none (by simp; omega), if_neg hi]; rfl
  have ln : ((us.drop sp.toNatClampNeg).take n.toNatClampNeg).length = n.toNatClampNeg := by
    rw [List.length_take, List.length_drop]; omega
  apply Array.ext_getElem?
  intro j
  have hsz : cd.slots.size = vs.length := by rw [e1]; simp
  show (cd.storeRun dp.toNatClampNeg (cs.stretch sp.toNatClampNeg n.toNatClampNeg)).slots[j]? = _
  rw [es, Cell.storeRun_get _ _ _ _ (by rw [ln, hsz]; exact h5), ln, e1]
  have lt : (vs.take dp.toNatClampNeg).length = dp.toNatClampNeg := by rw [List.length_take]; omega
  rw [List.getElem?_toArray, List.getElem?_toArray, List.append_assoc, List.getElem?_append, lt]
  by_cases c1 : j < dp.toNatClampNeg
  · rw [if_neg (by omega), if_pos c1, List.getElem?_take, if_pos c1]
  · rw [if_neg c1, List.getElem?_append, ln]
    by_cases c2 : j - dp.toNatClampNeg < n.toNatClampNeg
    · rw [if_pos (by omega), if_pos c2]
    · rw [if_neg (by omega), if_neg c2, List.getElem?_drop]
      congr 1
      omega
theorem sp_acopy {l : Launch} {D : DE} {s0 : State} : SPacopy l D s0 := by
  intro x cc own y nL ret Q K pc index hx G hr hl9 d kk ls st h hk H locs lsC hR hL hl
  unfold o_acopy at hk
  split at hk
  · next n dp a sp a0 r =>
    split at hk
    · next c0 us c vs h0 h1 =>
      obtain ⟨hc0, hc, p1, p2, p3, p4, p5, hf, hcat, hk⟩ := hk
      subst hc
      obtain ⟨cs, q1, q2, q3, q4, q5, q6, q7⟩ := hR.2.2.2.2.2 a0 _ h0
      obtain ⟨cd, r1, r2, r3, r4, r5, r6, r7⟩ := hR.2.2.2.2.2 a _ h1
      have e0 : cs.slots = us.toArray := q7 (by show 99 ≤ kd c0; omega)
      have e1 : cd.slots = vs.toArray := r7 (by show 99 ≤ kd 102; decide)
      have q2 : cs.cls = (yD x).1 (kd c0) := cls_ne q2 (by show kd c0 ≠ 100; omega)
      have h102 : (102 : Nat) < 200 := by decide
      have r2 : cd.cls = (yD x).1 102 := cls_lt r2 h102
      rw [hc0] at q2
      obtain ⟨-, kA, m1, comp, m2⟩ := (G.kn.2.2.1 2 .byte rfl).1 0 (fun _ => .null)
      have m1 : (yS x).vm.classes[(yD x).1 102]? = some kA := m1
      have hr2 : 8 + (5 + 11) + 60 ≤ x.1.2.2.2.locals := hr.2
      have hr1 : 1 + 1 ≤ x.1.2.2.2.frames := hr.1
      have hnw : nativeFrameWords "java/lang/System" "arraycopy" 5 + 11 ≤ 40 := by decide +kernel
      have ha : a < H.size := (Array.getElem?_eq_some_iff.mp r1).1
      intro T hT X
      obtain ⟨vm', X', step⟩ := X.arraycopy G.b.1 G.ow (G.hts _ hl9) (G.hts _ q468) (G.hts _ q467) (G.hts _ q95) (src := a0) (dst := a) (cs := cs) (cd := cd) (srcPos := sp) (destPos := dp) (n := n) (by rw [hT]; exact q1) (by rw [hT]; exact r1)
        (fun _ h => by rw [h] at q4; cases q4) (fun _ h => by rw [h] at r4; cases r4) q3 r3 (by rw [q2]; exact m1) (by rw [r2]; exact m1) m2 m2 (by decide) p1 p2 p3
        (by rw [i32_nn sp p1, i32_nn n p3, e0]; simp; omega)
        (by rw [i32_nn dp p2, i32_nn n p3, e1]; simp; omega)
        (fun vm₁ _ i hi => by
          have hlt : sp.toNatClampNeg + i < us.length := by omega
          have e : cs.slots.getD (sp.toNatClampNeg + i) .null = us[sp.toNatClampNeg + i] := by
            rw [Array.getD_eq_getD_getElem?, e0]
            simp [hlt]
          have hfi := hf _ (List.getElem_mem hlt)
          rw [e]
          exact ⟨hfi, State.takes_of_prim _ _ rfl hfi⟩)
        (g := F0 (yM x) pc lsC (.int n :: .int dp :: .ref a :: .int sp :: .ref a0 :: r)) rfl (by rw [G.ml]; exact hl.1) (rest := r) rfl (by rw [G.b.2]; exact d) (by omega) (by show 2 * 0 + (r.map fun v => v.category).sum + _ ≤ _; rw [catSum_eq]; omega)
      have hsl := copied_list (cs := cs) (cd := cd) e0 e1 p4 p5
      have hfa := Cell.storeRun_facts cd dp.toNatClampNeg (cs.stretch sp.toNatClampNeg n.toNatClampNeg)
      have hheap : ((T.setVm vm').setCell a (copied cs cd sp dp n)).heap = H.setIfInBounds a (copied cs cd sp dp n) := by rw [← hT]; rfl
      have hself : (H.setIfInBounds a (copied cs cd sp dp n))[a]? = some (copied cs cd sp dp n) := by simp [ha]
      have oq : ∀ q : Nat, q ≠ a → (H.setIfInBounds a (copied cs cd sp dp n))[q]? = H[q]? := fun q hq => by simp [Array.getElem?_setIfInBounds, Ne.symm hq]
      have hR' := hR.put (H' := H.setIfInBounds a (copied cs cd sp dp n)) (o' := (102, vs.take dp.toNatClampNeg ++ (us.drop sp.toNatClampNeg).take n.toNatClampNeg ++ vs.drop (dp.toNatClampNeg + n.toNatClampNeg))) h1 h102 r1 hself (by simp) oq hfa.2.2.1
        ⟨_, hself, Or.inl (by rw [hfa.1]; exact r2), by rw [hfa.2.1]; exact r3, by rw [hfa.2.1]; exact r4, fun _ => ⟨(r5 h102).1, by rw [hfa.2.1]; exact (r5 h102).2.1, by rw [hfa.2.2.2.2]; exact (r5 h102).2.2⟩, fun q => by exfalso; have : kd 102 < 99 := q; revert this; decide, fun _ => hsl⟩
      obtain ⟨t, a1, b1⟩ := kk _ _ _ hk (H.setIfInBounds a (copied cs cd sp dp n)) _ lsC hR' (fun z hz => by
        rcases List.mem_append.mp hz with hz | hz
        · exact hL z hz
        · obtain ⟨w, -, rfl⟩ := List.mem_map.mp hz
          exact (r5 h102).1) hl _ hheap X'
      exact ⟨t, step t a1, b1⟩
    · exact hk.elim
  · exact hk.elim
theorem sp_clone {l : Launch} {D : DE} {s0 : State} {nm : String} {c0 : Nat} {ty : FieldType} (h1 : 100 < c0) (h2 : c0 < 108) (hty : atl[c0 - 100]? = some ty) (hsame : Cond.sameMethod nm "java/lang/Object" "clone" "()Ljava/lang/Object;" ∈ lw_all)
    (hnat : Cond.native ⟨"java/lang/Object", "clone", "()Ljava/lang/Object;"⟩ ∈ lw_all) (hinst : Cond.instanceMethod ⟨"java/lang/Object", "clone", "()Ljava/lang/Object;"⟩ ∈ lw_all)
    (hsel : Cond.selects nm ⟨nm, "clone", "()Ljava/lang/Object;"⟩ ⟨"java/lang/Object", "clone", "()Ljava/lang/Object;"⟩ ∈ lw_all) (hcl : va_Nw (.castable nm "java/lang/Cloneable") s0) (hnm : ∀ U : State, Kn D U → U.vm.findClass nm = some (D.1 c0)) : SPclone l D s0 nm c0 ty := by
  intro x cc own y nL ret Q K pc index hx G hr hl9 d kk ls st h hk H locs lsC hR hL hl
  obtain ⟨-, hx2, hx3⟩ := hx
  unfold o_clone at hk
  split at hk
  · next a r =>
    split at hk
    · next c vs h0 =>
      obtain ⟨hc, k1, k2, hf, hcat, hk⟩ := hk
      obtain ⟨cs, q1, q2, q3, q4, q5, q6, q7⟩ := hR.2.2.2.2.2 a _ h0
      have e0 : cs.slots = vs.toArray := q7 (by show 99 ≤ kd c; omega)
      have q2 : cs.cls = (yD x).1 (kd c) := cls_ne q2 (by show kd c ≠ 100; omega)
      rw [hc] at q2
      have hsz : cs.slots.size = vs.length := by rw [e0]; simp
      obtain ⟨-, kA, m1, comp, m2⟩ := (G.kn.2.2.1 _ _ hty).1 0 (fun _ => .null)
      have e100 : 100 + (c0 - 100) = c0 := by omega
      rw [e100] at m1
      have m1 : (yS x).vm.classes[(yD x).1 c0]? = some kA := m1
      have hfc : (yS x).vm.findClass nm = some ((yD x).1 c0) := by
        have hkn := G.kn
        rw [hx2] at hkn ⊢
        exact hnm _ hkn
      have hcl' : va_Nw (.castable nm "java/lang/Cloneable") (yS x) := by
        have hw := G.warm
        rw [hx3] at hw
        exact va_Nw.warmC hw hcl
      obtain ⟨cX, t0, f1, f2, f3⟩ := Cond.castable_spec (va_Nw.use (A := yA x) rfl hcl')
      cases hfc.symm.trans f1
      have hr2 : 8 + (5 + 11) + 60 ≤ x.1.2.2.2.locals := hr.2
      have hr1 : 1 + 1 ≤ x.1.2.2.2.frames := hr.1
      refine aW_le G.gr hR fun e1 e2 => ?_
      have g1 := G.gr.2.1
      have g2 := G.gr.2.2
      have hkd : kd c0 = c0 := Nat.mod_eq_of_lt (by omega)
      have hR' : RelH (yD x) x.2.2.2.1.2.1 (hnew h (c0, vs) vs.length) (H.push { cls := cs.cls, slots := cs.slots }) := by
        have := hR.push (o := (c0, vs)) (cell := { cls := cs.cls, slots := cs.slots }) k1 (by show cs.slots.size ≤ _; rw [hsz]; exact k2) ⟨{ cls := cs.cls, slots := cs.slots }, by simp, Or.inl (by show cs.cls = (yD x).1 (kd c0); rw [q2, hkd]), fun q => (by cases q), rfl, fun _ => ⟨hR.2.1, rfl, rfl, rfl⟩, fun q => absurd (show kd c0 < 99 from q) (by rw [hkd]; omega), fun _ => e0⟩
        have e : ({ cls := cs.cls, slots := cs.slots } : Cell).slots.size = vs.length := hsz
        rw [e] at this
        exact this
      intro T hT X
      obtain ⟨kA', hkA', heA⟩ := X.warmed.alike.2.2 _ _ m1
      obtain ⟨vm', X', st'⟩ := X.cloneArray G.b.1 G.ow (G.hts _ hl9) (G.hts _ hsame) (G.hts _ hnat) (G.hts _ hinst) (G.hts _ hsel) (a := a) (cell := cs) (by rw [hT]; exact q1) (fun k h => by rw [h] at q4; cases q4) q3 (by rw [q2]; exact hfc) f2 (by rw [q2]; exact f3)
        (fun i v hv => by
          rw [q2]
          have hk' : T.vm.classes[(yD x).1 c0]? = some kA' := hkA'
          have hkind : kA'.kind = .array comp ty := by rw [heA]; exact m2
          rw [e0] at hv
          have hv' : vs[i]? = some v := by simpa using hv
          have := hf v (List.mem_of_getElem? hv')
          simpa [State.fitsSlot, State.slotType?, hk', hkind] using this)
        (g := F0 (yM x) pc lsC (.ref a :: r)) rfl (by rw [G.ml]; exact hl.1) rfl (by rw [G.b.2]; exact d) (by omega) (by show 2 * 0 + (r.map fun v => v.category).sum + 14 ≤ _; rw [catSum_eq]; omega) (by omega) (by rw [hsz]; omega) (hloader := by rw [q2]; exact Vm.clonesLoader_of_array m1 m2)
      have hheap : ((T.setVm vm').pushCell { cls := cs.cls, slots := cs.slots }).heap = H.push { cls := cs.cls, slots := cs.slots } := by rw [← hT]; rfl
      have K9 := aW_tight (ce := x.2.2.2.1.2.2.2.2.1 - h.2.2.1 + 1) (sl := x.2.2.2.1.2.2.2.2.2 - h.2.2.2 + cs.slots.size) G.gr.1 hR' (kk _ _ _ hk _ locs lsC hR' hL hl)
      obtain ⟨t, b1, b2⟩ := K9 _ hheap X'
      refine ⟨t, st' t ?_, b2⟩
      have hnx : T.heap.size = h.2.1 := by rw [hT]; exact hR.1
      rw [hnx]
      exact b1
    · exact hk.elim
  · exact hk.elim
theorem kn_byte {D : DE} (U : State) (h : Kn D U) : U.vm.findClass "[B" = some (D.1 102) := (h.2.2.1 2 .byte rfl).2
theorem kn_snd {D : DE} (U : State) (h : Kn D U) : U.vm.findClass "[LChantRules$Sound;" = some (D.1 107) := by
  obtain ⟨kA, comp, -, -, -, h4⟩ := (h.2.2.1 7 (.object "ChantRules$Sound") rfl).2
  exact h4
