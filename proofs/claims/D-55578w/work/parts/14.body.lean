/-! CONTRACTS of methods over the abstract machine: bodies, ends, throws, handlers -/
set_option maxRecDepth 100000
/-- no argument takes two places -/
def okA (av : List Value) : Bool := av.all (fun v => decide (v.category = 1))
/-- how a method with abstract outcome Q ends -/
def rQ (D : DE) (s0 : State) (Q : Rs → HS → Prop) (h : HS) : Array Value → State → Outcome → State → Prop := fun _ st o t =>
  (∃ L : List Loc, (∀ z ∈ L, s0.heap.size ≤ z.base) ∧ st.WarmedH t.vm ∧ st.sameButNew ({ t with vm := st.vm } : State) L h.2.2.1 h.2.2.2) ∧
    ∃ h' : HS, RelH D s0 h' t.heap ∧ ((∃ v, o = .returned v ∧ Q (.inl v) h') ∨ ∃ q, o = .threw q ∧ (∃ ob, h'.1 q = some ob) ∧ Q (.inr q) h')
def rPc (D : DE) (s0 : State) (av : List Value) (h : HS) : Array Value → State → Prop := fun a U => a = av.toArray ∧ RelH D s0 h U.heap ∧ s0.WarmedH U.vm
abbrev rRm (F L : Nat) (h : HS) : Room := { frames := F, cells := h.2.2.1, slots := h.2.2.2, locals := L }
/-- THE CONTRACT: whatever the abstract method comes to, the method comes to -/
def rMet (l : Launch) (D : DE) (s0 : State) (y : MethodName) (ws : List Cond) (F L : Nat) (wp : Wp) : Prop :=
  ∀ (av : List Value) (h : HS) (Q : Rs → HS → Prop), okA av = true → wp av h Q → MetFree l y (headSpec ws (rRm F L h)) (rPc D s0 av h) (fun _ _ _ _ _ => True) (rQ D s0 Q h)
/-- the state in which a body ends -/
def rMQ (D : DE) (s0 : State) (Q : Rs → HS → Prop) (h : HS) (below : List Frame) (a : Array Value) (s : State) : State → Prop := fun t => ∃ o, t.status = .running ∧ Ended t below o ∧ rQ D s0 Q h a s o t
/-- all that holds in a body -/
def Gd (x : CX) (cc : ByteArray) (own : String) (y : MethodName) (nL : Nat) (ret : Option FieldType) (Q : Rs → HS → Prop) : Prop :=
  xB x cc ∧ (yS x).vm.findClass own = some (yM x).cls ∧ (∀ w ∈ lw_all, w.before (yA x) (yS x) = true) ∧ Kn (yD x) (yS x) ∧ GR x ∧ x.2.2.2.1.2.1.WarmedH (yS x).vm ∧ x.2.2.1.2.1.maxLocals = x.2.2.2.2.1 ∧ x.2.2.2.2.1 = nL ∧
  x.2.2.1.1.locks = false ∧ x.2.2.1.1.sig.returnType = ret ∧ x.2.2.1.1.name = y.name ∧ x.2.2.1.2.2 = rMQ (yD x) x.2.2.2.1.2.1 Q x.2.2.2.1.2.2 x.2.1.2.2.2 (yA x) (yS x) ∧ (yS x).methodNamed? y = some (yM x)
theorem W.mono {p : Program} {l : Launch} {e : Env} {R : Room} {s : State} {m : MethodId} {args : Array Value} {below : List Frame} {meth : Method} {c : Code} {H : Heap} {locs : List Loc} {cells slots : Nat} {Q Q' : State → Prop} {g : JFrame} (h : ∀ t, Q t → Q' t)
    (k : W p l e R s m args below meth c H locs cells slots Q g) : W p l e R s m args below meth c H locs cells slots Q' g := by
  intro T hT X
  obtain ⟨t, a, b⟩ := k T hT X
  exact ⟨t, a, h t b⟩
section BODY
variable {x : CX} {cc : ByteArray} {own : String} {y : MethodName} {nL : Nat} {ret : Option FieldType} {Q : Rs → HS → Prop} {pc : Nat} {K T : Ct}
theorem Gd.b (G : Gd x cc own y nL ret Q) : xB x cc := G.1
theorem Gd.ow (G : Gd x cc own y nL ret Q) : (yS x).vm.findClass own = some (yM x).cls := G.2.1
theorem Gd.hts (G : Gd x cc own y nL ret Q) : ∀ w ∈ lw_all, w.before (yA x) (yS x) = true := G.2.2.1
theorem Gd.kn (G : Gd x cc own y nL ret Q) : Kn (yD x) (yS x) := G.2.2.2.1
theorem Gd.gr (G : Gd x cc own y nL ret Q) : GR x := G.2.2.2.2.1
theorem Gd.warm (G : Gd x cc own y nL ret Q) : x.2.2.2.1.2.1.WarmedH (yS x).vm := G.2.2.2.2.2.1
theorem Gd.ml (G : Gd x cc own y nL ret Q) : x.2.2.1.2.1.maxLocals = x.2.2.2.2.1 := G.2.2.2.2.2.2.1
theorem Gd.nl (G : Gd x cc own y nL ret Q) : x.2.2.2.2.1 = nL := G.2.2.2.2.2.2.2.1
theorem Gd.locks (G : Gd x cc own y nL ret Q) : x.2.2.1.1.locks = false := G.2.2.2.2.2.2.2.2.1
theorem Gd.rt (G : Gd x cc own y nL ret Q) : x.2.2.1.1.sig.returnType = ret := G.2.2.2.2.2.2.2.2.2.1
theorem Gd.name (G : Gd x cc own y nL ret Q) : x.2.2.1.1.name = y.name := G.2.2.2.2.2.2.2.2.2.2.1
theorem Gd.qm (G : Gd x cc own y nL ret Q) : x.2.2.1.2.2 = rMQ (yD x) x.2.2.2.1.2.1 Q x.2.2.2.1.2.2 x.2.1.2.2.2 (yA x) (yS x) := G.2.2.2.2.2.2.2.2.2.2.2.1
theorem Gd.nm (G : Gd x cc own y nL ret Q) : (yS x).methodNamed? y = some (yM x) := G.2.2.2.2.2.2.2.2.2.2.2.2
/-- the kit's end of a returning method is ours -/
theorem mq_of {h : HS} {v : Option Value} {H : Heap} (G : Gd x cc own y nL ret Q) (hR : RelH (yD x) x.2.2.2.1.2.1 h H) (hq : Q (.inl v) h) :
    ∀ t, MQ x.2.1.2.2.2 (fun _ _ o t => o = .returned v ∧ t.heap = H) (yA x) (yS x) (x.2.2.2.1.2.2.2.2.1 - h.2.2.1) (x.2.2.2.1.2.2.2.2.2 - h.2.2.2) (fun q => x.2.2.2.1.2.1.heap.size ≤ q) t → x.2.2.1.2.2 t := by
  intro t ⟨o, a1, a2, ⟨a3, a4⟩, L, ⟨b1, b2, b3⟩, b4⟩
  rw [G.qm]
  exact ⟨o, a1, a2, ⟨L, b4, b2, b3.mono (Nat.sub_le _ _) (Nat.sub_le _ _)⟩, h, by rw [a4]; exact hR, Or.inl ⟨v, a3, hq⟩⟩
def o_ireturn (ty : FieldType) (Q : Rs → HS → Prop) : Ct := fun _ st h => match st with | [.int v] => narrow ty (.int v) = .int v ∧ Q (.inl (some (.int v))) h | _ => False
theorem s_ireturn {ty : FieldType} (G : Gd x cc own y nL (some ty) Q) (d : decode cc pc = .ok (.ireturn, 1)) : Snd x pc (o_ireturn ty Q) := by
  intro ls st h hk H locs lsC hR hL hl
  unfold o_ireturn at hk
  split at hk
  · next v =>
    refine W.mono (mq_of G hR hk.2) ?_
    exact W.zret G.b.1 G.b.2 G.rt hk.1 (fun t ht hW => ⟨rfl, ht⟩) hL d G.locks
  · exact hk.elim
def o_return (Q : Rs → HS → Prop) : Ct := fun _ st h => match st with | [] => Q (.inl none) h | _ => False
theorem s_return (G : Gd x cc own y nL none Q) (d : decode cc pc = .ok (.return_, 1)) : Snd x pc (o_return Q) := by
  intro ls st h hk H locs lsC hR hL hl
  unfold o_return at hk
  split at hk
  · refine W.mono (mq_of G hR hk) ?_
    exact W.vret G.b.1 G.b.2 G.rt (fun t ht hW => ⟨rfl, ht⟩) hL d G.locks
  · exact hk.elim
def o_areturn (Q : Rs → HS → Prop) : Ct := fun _ st h => match st with | [.ref a] => Q (.inl (some (.ref a))) h | [.null] => Q (.inl (some .null)) h | _ => False
theorem s_areturn {rt : FieldType} (hrt : (∃ n, rt = .object n) ∨ ∃ t, rt = .array t) (G : Gd x cc own y nL (some rt) Q) (d : decode cc pc = .ok (.areturn, 1)) : Snd x pc (o_areturn Q) := by
  intro ls st h hk H locs lsC hR hL hl
  unfold o_areturn at hk
  split at hk
  · next a =>
    refine W.mono (mq_of G hR hk) ?_
    exact W.aret G.b.1 G.b.2 G.rt hrt (Or.inr ⟨a, rfl⟩) (fun t ht hW => ⟨rfl, ht⟩) hL d G.locks
  · refine W.mono (mq_of G hR hk) ?_
    exact W.aret G.b.1 G.b.2 G.rt hrt (Or.inl rfl) (fun t ht hW => ⟨rfl, ht⟩) hL d G.locks
  · exact hk.elim
def o_dreturn (Q : Rs → HS → Prop) : Ct := fun _ st h => match st with | [.double a] => Q (.inl (some (.double a))) h | _ => False
theorem s_dreturn (G : Gd x cc own y nL (some .double) Q) (d : decode cc pc = .ok (.dreturn, 1)) : Snd x pc (o_dreturn Q) := by
  intro ls st h hk H locs lsC hR hL hl
  unfold o_dreturn at hk
  split at hk
  · next a =>
    refine W.mono (mq_of G hR hk) ?_
    exact W.dret G.b.1 G.b.2 G.rt (fun t ht hW => ⟨rfl, ht⟩) hL d G.locks
  · exact hk.elim
def o_freturn (Q : Rs → HS → Prop) : Ct := fun _ st h => match st with | [.float a] => Q (.inl (some (.float a))) h | _ => False
theorem s_freturn (G : Gd x cc own y nL (some .float) Q) (d : decode cc pc = .ok (.freturn, 1)) : Snd x pc (o_freturn Q) := by
  intro ls st h hk H locs lsC hR hL hl
  unfold o_freturn at hk
  split at hk
  · next a =>
    refine W.mono (mq_of G hR hk) ?_
    exact W.fret G.b.1 G.b.2 G.rt (fun t ht hW => ⟨rfl, ht⟩) hL d G.locks
  · exact hk.elim
/-! throws -/
def AWX (x : CX) (pc : Nat) : Xt := fun ls q h =>
  ∀ (H : Heap) (locs : List Loc) (lsC : Array Slot) (st : List Value), RelH (yD x) x.2.2.2.1.2.1 h H → (∀ z ∈ locs, x.2.2.2.1.2.1.heap.size ≤ z.base) → LsOK x.2.2.2.2.1 x.2.2.2.2.2 ls lsC →
    vx_W x.1.1 x.1.2.1 x.1.2.2.1 x.1.2.2.2 x.2.1.1 x.2.1.2.1 x.2.1.2.2.1 x.2.1.2.2.2 x.2.2.1.1 x.2.2.1.2.1 H locs (x.2.2.2.1.2.2.2.2.1 - h.2.2.1) (x.2.2.2.1.2.2.2.2.2 - h.2.2.2) x.2.2.1.2.2 (F0 x.2.1.2.1 pc lsC st) q
def SndX (x : CX) (pc : Nat) (X : Xt) : Prop := ∀ ls q h, X ls q h → AWX x pc ls q h
/-- no handler here: it goes on to the caller -/
def x_out (Q : Rs → HS → Prop) : Xt := fun _ q h => (∃ ob, h.1 q = some ob) ∧ Q (.inr q) h
theorem sx_out (G : Gd x cc own y nL ret Q) (hout : ∀ z ∈ x.2.2.1.2.1.exceptionTable.toList, covers z pc = false) : SndX x pc (x_out Q) := by
  intro ls q h hk H locs lsC st hR hL hl T hT X
  obtain ⟨st1, hrun, hend, hW, hsm⟩ := X.leaveThrown q (g := F0 (yM x) pc lsC st) rfl rfl rfl hout G.locks
  refine ⟨_, st1, ?_⟩
  rw [G.qm]
  refine ⟨.threw q, hrun, hend, ⟨locs, hL, hW, hsm.mono (Nat.sub_le _ _) (Nat.sub_le _ _)⟩, h, ?_, Or.inr ⟨q, rfl, hk.1, hk.2⟩⟩
  show RelH _ _ h T.heap
  rw [hT]; exact hR
/-- it can't be -/
def x_no : Xt := fun _ _ _ => False
theorem sx_no : SndX x pc x_no := fun _ _ _ h => h.elim
/-- a handler for these kinds -/
def x_catch (cs : List Nat) (T : Ct) (X : Xt) : Xt := fun ls q h => match h.1 q with | some (c, _) => if inK cs c = true then c < 200 ∧ T ls [.ref q] h else X ls q h | none => False
theorem sx_catch {cs : List Nat} {X : Xt} {nm : String} (G : Gd x cc own y nL ret Q) (pre : List ExceptionTableEntry) (z : ExceptionTableEntry) (suf : List ExceptionTableEntry) (hsplit : x.2.2.1.2.1.exceptionTable.toList = pre ++ z :: suf)
    (hpass : ∀ w ∈ pre, covers w pc = false ∨ (w.catchType ≠ 0 ∧ ∃ n9 : String, Cond.classLink own w.catchType n9 ∈ lw_all ∧ ∀ c ∈ cs, (c, n9) ∈ ntab)) (hz : covers z pc = true) (h0 : z.catchType ≠ 0) (hlink : Cond.classLink own z.catchType nm ∈ lw_all) (hcs : ∀ c ∈ cs, (c, nm) ∈ ctab ∧ c < 23)
    (hT : Snd x z.handlerPc T) (hX : SndX x pc X) : SndX x pc (x_catch cs T X) := by
  intro ls q h hk H locs lsC st hR hL hl
  unfold x_catch at hk
  split at hk
  · next c vs hσ =>
    split at hk
    · next hin =>
      obtain ⟨cell, q1, q2, q3, q4, q5, q6, -⟩ := hR.2.2.2.2.2 q _ hσ
      obtain ⟨t9, t1, t2, -⟩ := G.kn.2.2.2.1 _ (hcs _ (inK_spec hin)).1
      have hlt := (hcs _ (inK_spec hin)).2
      obtain ⟨r2, f1, -⟩ := q6 (by show kd c < 99; omega)
      obtain ⟨ks, hks, -⟩ := Vm.findClass_spec (G.kn.1 _ _ f1).1
      have kk := hT _ _ _ hk.2 H locs lsC hR hL hl
      intro T9 hT9 X9
      have hpl : x.1.2.2.1.platform.magicAccessors = ({} : Platform).magicAccessors := by rw [X9.admits.platform]
      obtain ⟨c5, hc5, hcl5⟩ := Cond.classLink_spec G.ow (G.hts _ hlink) x.1.2.2.1.platform hpl
      cases Option.some.inj (t1.symm.trans hc5)
      have hvm : cell.vm = .none := (q5 hk.1).2.1
      obtain ⟨vm', X', st'⟩ := X9.thenCaughtThrough q (g := F0 (yM x) pc lsC st) rfl (Steps.refl _) (by rw [hT9]; exact q1) (by rw [hvm]; rfl) ⟨ks, by rw [cls_lt q2 hk.1]; exact hks⟩ pre z suf hsplit
        (fun w hw => by
          rcases hpass w hw with h9 | ⟨hz0, n9, hl1, hn1⟩
          · exact Or.inl h9
          · obtain ⟨c6, hc6, hcl6⟩ := Cond.classLink_spec G.ow (G.hts _ hl1) x.1.2.2.1.platform hpl
            obtain ⟨b8, b1, b2⟩ := G.kn.2.2.2.2.1 _ (hn1 _ (inK_spec hin))
            cases Option.some.inj (b1.symm.trans hc6)
            exact Or.inr ⟨hz0, _, hcl6, by rw [cls_lt q2 hk.1]; exact b2⟩) hz (Or.inr ⟨h0, _, hcl5, by rw [cls_lt q2 hk.1]; exact t2⟩)
      obtain ⟨t, a1, b1⟩ := kk (T9.setVm vm') hT9 X'
      exact ⟨t, st'.trans a1, b1⟩
    · exact hX _ _ _ hk H locs lsC st hR hL hl
  · exact hk.elim
/-- athrow -/
def o_athrow (X : Xt) : Ct := fun ls st h => match st with | .ref q :: _ => (match h.1 q with | some (c, _) => c < 200 ∧ X ls q h | none => False) | _ => False
theorem s_athrow {X : Xt} (G : xB x cc) (hKn : Kn (yD x) (yS x)) (d : decode cc pc = .ok (.athrow, 1)) (hX : SndX x pc X) : Snd x pc (o_athrow X) := by
  intro ls st h hk H locs lsC hR hL hl
  unfold o_athrow at hk
  split at hk
  · next q r =>
    split at hk
    · next c vs hσ =>
      exact vx_athrow G.1 G.2 d (hX _ _ _ hk.2 H locs lsC r hR hL hl)
    · exact hk.elim
  · exact hk.elim
end BODY
/-! from a body to its contract -/
/-- the locals at the entry -/
def ls0 (n : Nat) (av : List Value) : List Value := av ++ List.replicate (n - av.length) jk
theorem okA_mem {av : List Value} (h : okA av = true) : ∀ v ∈ av, v.category = 1 := fun v hv => by simpa using List.all_eq_true.mp h v hv
theorem entry_ok {av : List Value} {n : Nat} (h : okA av = true) (hn : av.length ≤ n) (c2 : Nat → Bool) : ∃ lsC, (∀ m : MethodId, entryFrame m av.toArray n = F0 m 0 lsC []) ∧ LsOK n c2 (ls0 n av) lsC := by
  have hc := okA_mem h
  have hlen : ∀ (vs : List Value), (∀ v ∈ vs, v.category = 1) → (lg_sl vs) = vs.map Slot.val := by
    intro vs
    induction vs with
    | nil => intro _; rfl
    | cons a t ih =>
      intro hv
      have h1 : ¬ a.category = 2 := by rw [hv a List.mem_cons_self]; decide
      simp only [lg_sl, List.flatMap_cons, h1, if_false, List.map_cons, List.singleton_append]
      have := ih (fun v hv' => hv v (List.mem_cons_of_mem _ hv'))
      simp only [lg_sl] at this
      rw [this]
  have hargs : ∀ (vs : List Value) (i : Nat), (∀ v ∈ vs, v.category = 1) → ∀ (j : Nat) (v : Value), vs[j]? = some v → (i + j, v) ∈ lv_args i vs := by
    intro vs
    induction vs with
    | nil => intro i _ j v h; simp at h
    | cons a t ih =>
      intro i hv j v hj
      have h1 : ¬ a.category = 2 := by rw [hv a List.mem_cons_self]; decide
      simp only [lv_args, h1, if_false]
      cases j with
      | zero => simp at hj; subst hj; exact List.mem_cons_self
      | succ j =>
        simp at hj
        have := ih (i + 1) (fun v hv' => hv v (List.mem_cons_of_mem _ hv')) j v hj
        rw [show i + 1 + j = i + (j + 1) by omega] at this
        exact List.mem_cons_of_mem _ this
  have hl : (lg_sl av).length ≤ n := by rw [hlen av hc]; simpa using hn
  have he := lv_entry av hl
  refine ⟨_, fun m => lg_entry_eq m av n, he.1, by simp [ls0]; omega, he.2.1, fun i v hi hv => ?_, fun i v hi hv => ?_⟩
  · simp only [ls0] at hi
    by_cases hlt : i < av.length
    · rw [List.getElem?_append_left hlt] at hi
      have := he.2.2 _ (hargs av 0 hc i v hi)
      simpa using this
    · rw [List.getElem?_append_right (by omega)] at hi
      exact absurd (List.eq_of_mem_replicate (List.mem_of_getElem? hi)) hv
  · exfalso
    simp only [ls0] at hi
    rcases List.mem_append.mp (List.mem_of_getElem? hi) with h1 | h1
    · have := hc v h1; omega
    · rw [List.eq_of_mem_replicate h1] at hv
      simp [jk, Value.category] at hv
/-- the fixed things of a walk, put together -/
abbrev mkx (p : Program) (l : Launch) (e : Env) (F L : Nat) (s : State) (m : MethodId) (av : List Value) (below : List Frame) (meth : Method) (c : Code) (Q : Rs → HS → Prop) (D : DE) (s0 : State) (h : HS) (maxL : Nat) (c2 : Nat → Bool) : CX :=
  ((p, l, e, rRm F L h), (s, m, av.toArray, below), (meth, c, rMQ D s0 Q h below av.toArray s), (D, s0, h), (maxL, c2))
/-- what a walk of a body gives -/
theorem body_met {l : Launch} {D : DE} {s0 : State} {y : MethodName} {ws ws' : List Cond} {F L : Nat} {wp : Wp} {cc : ByteArray} {maxL : Nat} {ret : Option FieldType} (c2 : Nat → Bool) (hKn0 : Kn D s0) (hws : ∀ w ∈ lw_all, w ∈ ws')
    (hy : plainName y.cls = true) (hw : ws = Cond.code y cc maxL ret :: ws') (hav : ∀ av h Q, wp av h Q → av.length ≤ maxL)
    (body : ∀ (p : Program) (e : Env) (s : State) (m : MethodId) (below : List Frame) (meth : Method) (c : Code) (av : List Value) (h : HS) (Q : Rs → HS → Prop), (∀ z ∈ c.exceptionTable.toList, False) → Gd (mkx p l e F L s m av below meth c Q D s0 h maxL c2) cc y.cls y maxL ret Q → wp av h Q → AW (mkx p l e F L s m av below meth c Q D s0 h maxL c2) 0 (ls0 maxL av) [] h) : rMet l D s0 y ws F L wp := by
  intro av h Q hA hwp
  refine MetFree.of_bodyS (code := cc) (maxLocals := maxL) (ret := ret) hy ?_ ?_
  · intro args s m h hn
    obtain ⟨meth, c, h1, h2, h3, h4, h5, h6, -, -⟩ := Cond.code_spec hn (atoms_spec (ws := ws) h _ (by rw [hw]; exact List.mem_cons_self))
    exact ⟨meth, c, h1, h2, h3, h4, h5, h6⟩
  · intro p e s m args below meth c s₁ B hml hP _
    obtain ⟨rfl, hR, hwm⟩ := hP
    have hh0 : s₁.heap = s.heap := by rw [B.state]; rfl
    have ht : ∀ x ∈ c.exceptionTable.toList, False := by
      obtain ⟨meth9, c9, h1, h2, -, -, -, -, h7, -⟩ := Cond.code_spec B.named (atoms_spec (ws := ws) B.pre _ (by rw [hw]; exact List.mem_cons_self))
      cases Option.some.inj (h1.symm.trans B.method)
      cases Option.some.inj (h2.symm.trans (Stand.of_body B).code)
      intro x hx
      rw [Array.isEmpty_iff.mp h7] at hx
      cases hx
    have hml : c.maxLocals = maxL := hml
    have hts0 : ∀ w ∈ ws, w.before av.toArray s = true := atoms_spec (ws := ws) B.pre
    obtain ⟨lsC, e1, e2⟩ := entry_ok hA (hav _ _ _ hwp) c2
    have G : Gd (mkx p l e F L s m av below meth c Q D s0 h maxL c2) cc y.cls y maxL ret Q := ⟨⟨B.exec, B.bytes⟩, findClass_of_methodNamed B.named, fun w hw9 => hts0 w (by rw [hw]; exact List.mem_cons_of_mem _ (hws w hw9)), hKn0.moved hwm.alike, ⟨hR, rfl, rfl⟩, hwm, hml, rfl, B.notSynchronized, B.returns, (name_of_methodNamed B.named B.method).1, rfl, B.named⟩
    have k := body p e s m below meth c av h Q ht G hwp s.heap [] lsC hR (fun _ h => nomatch h) e2
    have k2 : W p l e (rRm F L h) s m av.toArray below meth c s.heap [] (h.2.2.1 - h.2.2.1) (h.2.2.2 - h.2.2.2) (rMQ D s0 Q h below av.toArray s) (F0 m 0 lsC []) := k
    rw [Nat.sub_self, Nat.sub_self, ← e1 m] at k2
    obtain ⟨t, a1, o, b1, b2, b3⟩ := k2 s₁ hh0 (Stand.of_body B)
    exact ⟨t, o, a1, b1, b2, b3⟩
/-- the same for a method with handlers -/
theorem body_metW {l : Launch} {D : DE} {s0 : State} {y : MethodName} {ws ws' : List Cond} {F L : Nat} {wp : Wp} {cc : ByteArray} {maxL : Nat} {ret : Option FieldType} {hh : List (Nat × Nat × Nat × Nat)} (c2 : Nat → Bool) (hKn0 : Kn D s0) (hws : ∀ w ∈ lw_all, w ∈ ws')
    (hy : plainName y.cls = true) (hw : ws = Cond.codeWith y cc maxL ret hh :: ws') (hav : ∀ av h Q, wp av h Q → av.length ≤ maxL)
    (body : ∀ (p : Program) (e : Env) (s : State) (m : MethodId) (below : List Frame) (meth : Method) (c : Code) (av : List Value) (h : HS) (Q : Rs → HS → Prop), c.exceptionTable.toList = tableOf hh → Gd (mkx p l e F L s m av below meth c Q D s0 h maxL c2) cc y.cls y maxL ret Q → wp av h Q → AW (mkx p l e F L s m av below meth c Q D s0 h maxL c2) 0 (ls0 maxL av) [] h) : rMet l D s0 y ws F L wp := by
  intro av h Q hA hwp
  refine MetFree.of_bodyS (code := cc) (maxLocals := maxL) (ret := ret) hy ?_ ?_
  · intro args s m h hn
    obtain ⟨m9, meth, c, hn9, h1, h2, h3, h4, -, h5, h6, -⟩ := Cond.codeWith_spec (atoms_spec (ws := ws) h _ (by rw [hw]; exact List.mem_cons_self))
    cases hn.symm.trans hn9
    exact ⟨meth, c, h1, h2, h3, h4, h5, h6⟩
  · intro p e s m args below meth c s₁ B hml hP _
    obtain ⟨rfl, hR, hwm⟩ := hP
    have hh0 : s₁.heap = s.heap := by rw [B.state]; rfl
    have hml : c.maxLocals = maxL := hml
    have hts0 : ∀ w ∈ ws, w.before av.toArray s = true := atoms_spec (ws := ws) B.pre
    have ht : c.exceptionTable.toList = tableOf hh := vx_table (x := y) B (hts0 _ (by rw [hw]; exact List.mem_cons_self))
    obtain ⟨lsC, e1, e2⟩ := entry_ok hA (hav _ _ _ hwp) c2
    have G : Gd (mkx p l e F L s m av below meth c Q D s0 h maxL c2) cc y.cls y maxL ret Q := ⟨⟨B.exec, B.bytes⟩, findClass_of_methodNamed B.named, fun w hw9 => hts0 w (by rw [hw]; exact List.mem_cons_of_mem _ (hws w hw9)), hKn0.moved hwm.alike, ⟨hR, rfl, rfl⟩, hwm, hml, rfl, B.notSynchronized, B.returns, (name_of_methodNamed B.named B.method).1, rfl, B.named⟩
    have k := body p e s m below meth c av h Q ht G hwp s.heap [] lsC hR (fun _ h => nomatch h) e2
    have k2 : W p l e (rRm F L h) s m av.toArray below meth c s.heap [] (h.2.2.1 - h.2.2.1) (h.2.2.2 - h.2.2.2) (rMQ D s0 Q h below av.toArray s) (F0 m 0 lsC []) := k
    rw [Nat.sub_self, Nat.sub_self, ← e1 m] at k2
    obtain ⟨t, a1, o, b1, b2, b3⟩ := k2 s₁ hh0 (Stand.of_body B)
    exact ⟨t, o, a1, b1, b2, b3⟩
