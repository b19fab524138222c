/-! CALLS of the abstract machine -/
set_option maxRecDepth 100000
def rPre (D : DE) (s0 : State) (av : List Value) (h : HS) (R : Room) : Pt → Array Value → Prop := fun A a => A.cells + h.2.2.1 ≤ R.cells ∧ A.slots + h.2.2.2 ≤ R.slots ∧ rPc D s0 av h a A.U
def rPost (D : DE) (s0 : State) (Q : Rs → HS → Prop) : Pt → Array Value → Option Value → Pt → Prop := fun A a v B => ∃ (h' : HS) (L : List Loc), RelH D s0 h' B.U.heap ∧ Q (.inl v) h' ∧ B.locs = A.locs ++ L ∧ ∀ z ∈ L, s0.heap.size ≤ z.base
def rPostX (D : DE) (s0 : State) (Q : Rs → HS → Prop) : Pt → Array Value → Addr → Pt → Prop := fun A a q B => ∃ (h' : HS) (L : List Loc), RelH D s0 h' B.U.heap ∧ ((∃ ob, h'.1 q = some ob) ∧ Q (.inr q) h') ∧ B.locs = A.locs ++ L ∧ ∀ z ∈ L, s0.heap.size ≤ z.base
section RB
variable {l : Launch} {R : Room} {p : Program} {e : Env} {below : List Frame} {s : State} {sargs : Array Value} {y : MethodName} {len W9 : Nat} {D : DE} {s0 : State} {F L : Nat} {wp : Wp} {av : List Value} {h : HS} {Q : Rs → HS → Prop} {bytes : ByteArray} {maxL : Nat} {ret : Option FieldType}
/-- a contract, used: after the proof of vx_back -/
theorem r_back0 {ws : List Cond} (hM : rMet l D s0 y ws F L wp) (hA : okA av = true) (hwp : wp av h Q) (hframes : F + 1 ≤ R.frames) (hlocals : W9 + (maxL + 11) + L ≤ R.locals)
    (hws : ∀ w ∈ ws, ∀ a' U, s.WarmedH U.vm → w.before a' U = true) (hcode : ∀ (a' : Array Value) (U : State) (mk : MethodId), s.WarmedH U.vm → U.methodNamed? y = some mk → ∃ (m9 : Method) (c9 : Code), U.vm.method? mk = some m9 ∧ m9.code = some c9 ∧ c9.maxLocals = maxL)
    (hinit : ∀ a' U, s.WarmedH U.vm → (Cond.initialized y.cls).before a' U = true) :
    vx_Back l R p e below s sargs y len W9 (rPre D s0 av h R) (rPost D s0 Q) (rPostX D s0 Q) := by
  intro m meth c A g ig mk a X hg hsize hdg hW hn hp
  have h1 : (headSpec ws (rRm F L h)).pre.before a A.U = true := atoms_intro fun w hw => hws w hw _ _ X.warmed
  have h3 : (Cond.initialized y.cls).before a A.U = true := hinit _ _ X.warmed
  have h4 : A.cells + (headSpec ws (rRm F L h)).room.cells ≤ R.cells := hp.1
  have h5 : A.slots + (headSpec ws (rRm F L h)).room.slots ≤ R.slots := hp.2.1
  have hPc : rPc D s0 av h a (A.U.calling g mk a) := hp.2.2
  obtain ⟨methY, cY, hmY, hcY, hlY⟩ := hcode a A.U mk X.warmed hn
  obtain ⟨U, Ls, c0, n0⟩ := A
  dsimp only [Pt.U, Pt.locs, Pt.cells, Pt.slots] at h1 h3 h4 h5 X hn hPc hmY ⊢
  obtain ⟨kY, hkY, -⟩ := className_of_methodNamed hn
  have hinitY : kY.init = .initialized := Cond.initialized_spec (findClass_of_methodNamed hn) hkY h3
  have h0 : At U g.method c below := by rw [hg]; exact X.here
  have hlocals9 : W9 + (maxL + 11) + (headSpec ws (rRm F L h)).room.locals ≤ R.locals := hlocals
  have happ : (headSpec ws (rRm F L h)).appliesLoose y e.platform (U.calling g mk a) = true :=
    Spec.appliesLoose_calling (g := g) h0 hdg hn hkY hinitY
      (X.room_calling (g := g) (R' := (headSpec ws (rRm F L h)).room) hsize hmY hcY hframes (by rw [hlY]; omega) h4 h5) h1
  obtain ⟨mid, hmid⟩ := h0.above
  have hfr : (U.setTop g).frames = (.java g :: mid) ++ below := by rw [State.frames_setTop' g h0.top, hmid]; rfl
  obtain ⟨o, s₂, hsteps, -, hend, hq⟩ := Steps.callFree (hM av h Q hA hwp) p X.admits X.cas X.clock (acts := []) hfr happ hPc trivial
  have hq' : rQ D s0 Q h a (U.calling g mk a) o s₂ := hq
  rw [State.frames_setTop' g h0.top] at hend
  obtain ⟨g₀, hg0⟩ := Option.isSome_iff_exists.mp h0.top
  obtain ⟨r, hr⟩ := State.topJava?_eq_some.mp hg0
  have hr' : (({ U with heap := s₂.heap, slotsUsed := s₂.slotsUsed } : State).setVm s₂.vm).frames = .java g₀ :: r := hr
  obtain ⟨⟨L9, hL9, hW₂, hsm⟩, h', hR', hcases⟩ := hq'
  obtain ⟨e2, q2, q3, q4, q5, q6⟩ := id hsm
  have e3 : s₂ = ({ (U.calling g mk a).setFrames s₂.frames with heap := s₂.heap, slotsUsed := s₂.slotsUsed } : State).setVm s₂.vm := by
    have : s₂ = ({ s₂ with vm := (U.calling g mk a).vm } : State).setVm s₂.vm := rfl
    rw [e2] at this
    exact this
  have hW' : U.WarmedH s₂.vm := hW₂
  have hsame : U.sameButNew ({ U with heap := s₂.heap, slotsUsed := s₂.slotsUsed } : State) L9 h.2.2.1 h.2.2.2 := by
    refine ⟨?_, q2, q3, q4, q5, q6⟩
    obtain ⟨t, ht, -⟩ := State.frames_cons hr
    show ({ U with heap := s₂.heap, slotsUsed := s₂.slotsUsed } : State) = { U.setFrames U.frames with heap := s₂.heap, slotsUsed := s₂.slotsUsed }
    rw [State.setFrames_self ht]
  rcases hcases with ⟨v, rfl, hqv⟩ | ⟨q, rfl, hob, hqq⟩
  · obtain ⟨c₂, i₂, len₂, hc₂, hd₂, hf₂⟩ := hend
    have hcc : c₂ = c := by
      have h1 : s₂.code? g.method = U.code? g.method := by
        rw [State.code?_eq, State.code?_eq, hW'.alike.method?]
      exact Option.some.inj (hc₂.symm.trans (h1.trans h0.code))
    subst hcc
    have hlen : len₂ = len := by rw [hdg] at hd₂; cases hd₂; rfl
    subst hlen
    have hs₂ : s₂ = (({ U with heap := s₂.heap, slotsUsed := s₂.slotsUsed } : State).setVm s₂.vm).setTop { g with pc := g.pc + len₂, stack := v.toList ++ g.stack } := by
      refine e3.trans ?_
      rw [hf₂, State.calling_eq h0.top, State.setFrames_setFrames, State.setTop_of_frames _ hr', hr]
      rfl
    subst hg
    refine Or.inl ⟨v, ⟨(({ U with heap := s₂.heap, slotsUsed := s₂.slotsUsed } : State).setVm s₂.vm), Ls ++ L9, c0 + h.2.2.1, n0 + h.2.2.2⟩,
      ⟨X.admits, X.cas, X.clock, X.frames, X.room, X.hears, X.method, X.code, (X.here.setHeapUsed s₂.heap s₂.slotsUsed).setVm hW'.alike, X.tail, State.WarmedH.trans X.warmed hW', X.limits, X.bytes, X.same.trans (hsame.setVm s.vm)⟩,
      ⟨h', L9, hR', hqv, rfl, hL9⟩, ?_⟩
    show Steps p.tables e below _ ((({ U with heap := s₂.heap, slotsUsed := s₂.slotsUsed } : State).setVm s₂.vm).setTop { g with pc := g.pc + len₂, stack := v.toList ++ g.stack })
    rw [← hs₂]
    exact hsteps
  · have hf₂ : s₂.frames = .throwing q :: .java g :: U.frames.tail := hend
    have hs₂ : s₂ = ((({ U with heap := s₂.heap, slotsUsed := s₂.slotsUsed } : State).setVm s₂.vm).setTop g).pushFrame (.throwing q) := by
      refine e3.trans ?_
      rw [hf₂, State.calling_eq h0.top, State.setFrames_setFrames, State.pushFrame, State.frames_setTop _ hr', State.setTop_of_frames _ hr', State.setFrames_setFrames, hr]
      rfl
    subst hg
    refine Or.inr ⟨q, ⟨(({ U with heap := s₂.heap, slotsUsed := s₂.slotsUsed } : State).setVm s₂.vm), Ls ++ L9, c0 + h.2.2.1, n0 + h.2.2.2⟩,
      ⟨X.admits, X.cas, X.clock, X.frames, X.room, X.hears, X.method, X.code, (X.here.setHeapUsed s₂.heap s₂.slotsUsed).setVm hW'.alike, X.tail, State.WarmedH.trans X.warmed hW', X.limits, X.bytes, X.same.trans (hsame.setVm s.vm)⟩,
      ⟨h', L9, hR', ⟨hob, hqq⟩, rfl, hL9⟩, ?_⟩
    show Steps p.tables e below _ (((({ U with heap := s₂.heap, slotsUsed := s₂.slotsUsed } : State).setVm s₂.vm).setTop g).pushFrame (.throwing q))
    rw [← hs₂]
    exact hsteps
theorem r_back (hM : rMet l D s0 y (ws_ y bytes maxL ret) F L wp) (hA : okA av = true) (hwp : wp av h Q) (hframes : F + 1 ≤ R.frames) (hlocals : W9 + (maxL + 11) + L ≤ R.locals) (hts : ∀ w ∈ lw_all, w.before sargs s = true)
    (hc : Cond.code y bytes maxL ret ∈ lw_all) (hini : Cond.initialized y.cls ∈ lw_all) : vx_Back l R p e below s sargs y len W9 (rPre D s0 av h R) (rPost D s0 Q) (rPostX D s0 Q) := by
  have hpay := pay_in hts (lw_meth hc)
  refine r_back0 (maxL := maxL) hM hA hwp hframes hlocals hpay (fun a' U mk hW hn => ?_) (fun a' U hW => word_at hW (Or.inl (by first | rfl | simp [Cond.onTables, Cond.keeps, Cond.steady])) (hts _ hini))
  obtain ⟨m9, c9, g1, g2, -, g3, -⟩ := Cond.code_spec hn (hpay _ List.mem_cons_self a' U hW)
  exact ⟨m9, c9, g1, g2, g3⟩
theorem r_backW {hh : List (Nat × Nat × Nat × Nat)} (hM : rMet l D s0 y (wsW_ y bytes maxL ret hh) F L wp) (hA : okA av = true) (hwp : wp av h Q) (hframes : F + 1 ≤ R.frames) (hlocals : W9 + (maxL + 11) + L ≤ R.locals) (hts : ∀ w ∈ lw_all, w.before sargs s = true)
    (hc : Cond.codeWith y bytes maxL ret hh ∈ lw_all) (hini : Cond.initialized y.cls ∈ lw_all) : vx_Back l R p e below s sargs y len W9 (rPre D s0 av h R) (rPost D s0 Q) (rPostX D s0 Q) := by
  have hpay := pay_in hts (lw_methW hc)
  refine r_back0 (maxL := maxL) hM hA hwp hframes hlocals hpay (fun a' U mk hW hn => ?_) (fun a' U hW => word_at hW (Or.inl (by first | rfl | simp [Cond.onTables, Cond.keeps, Cond.steady])) (hts _ hini))
  obtain ⟨m8, m9, c9, hn9, g1, g2, -, g3, -⟩ := Cond.codeWith_spec (hpay _ List.mem_cons_self a' U hW)
  cases hn.symm.trans hn9
  exact ⟨m9, c9, g1, g2, g3⟩
end RB
/-- n values off the stack, in the order in which they were laid on it -/
def splitN : Nat → List Value → Option (List Value × List Value)
  | 0, st => some ([], st)
  | _ + 1, [] => none
  | n + 1, v :: st => match splitN n st with | some (as, r) => some (as ++ [v], r) | none => none
theorem splitN_spec : ∀ (n : Nat) (st as r : List Value), splitN n st = some (as, r) → st = as.reverse ++ r ∧ as.length = n := by
  intro n
  induction n with
  | zero => intro st as r h; simp only [splitN, Option.some.injEq, Prod.mk.injEq] at h; obtain ⟨rfl, rfl⟩ := h; exact ⟨rfl, rfl⟩
  | succ n ih =>
    intro st as r h
    cases st with
    | nil => simp [splitN] at h
    | cons v st =>
      simp only [splitN] at h
      split at h
      · next a1 r1 h1 =>
        obtain ⟨e1, e2⟩ := ih _ _ _ h1
        simp only [Option.some.injEq, Prod.mk.injEq] at h
        obtain ⟨rfl, rfl⟩ := h
        exact ⟨by rw [e1]; simp, by simp [e2]⟩
      · cases h
def catSum : List Value → Nat
  | [] => 0
  | v :: r => v.category + catSum r
theorem catSum_eq (r : List Value) : (r.map fun v => v.category).sum = catSum r := by
  induction r with
  | nil => rfl
  | cons v r ih => simp [catSum, ih]
/-- behind a call -/
def callPost (X : Xt) (K : Ct) (ls r : List Value) : Rs → HS → Prop := fun o h => match o with
  | .inl none => K ls r h
  | .inl (some v) => K ls (v :: r) h
  | .inr q => X ls q h
/-- a call: a static method, a constructor, a method of this very class -/
def o_call (n : Nat) (wp : Wp) (X : Xt) (K : Ct) : Ct := fun ls st h => match splitN n st with
  | some (as, r) => okA as = true ∧ catSum r ≤ 8 ∧ wp as h (callPost X K ls r)
  | none => False
/-- the same, with an object to be called that isn't null -/
def o_callI (n : Nat) (wp : Wp) (X : Xt) (K : Ct) : Ct := fun ls st h => match splitN n st with
  | some (.ref b :: as, r) => okA as = true ∧ catSum r ≤ 8 ∧ wp (.ref b :: as) h (callPost X K ls r)
  | _ => False
/-- .. of one of these kinds -/
def o_callV (cs : List Nat) (n : Nat) (wp : Wp) (X : Xt) (K : Ct) : Ct := fun ls st h => match splitN n st with
  | some (.ref b :: as, r) => (match h.1 b with | some (c, _) => inK cs c = true ∧ okA as = true ∧ catSum r ≤ 8 ∧ wp (.ref b :: as) h (callPost X K ls r) | none => False)
  | _ => False
/-- by the kind of the object that is called -/
def o_vsel (n : Nat) (cs : List Nat) (A B : Ct) : Ct := fun ls st h => match splitN n st with
  | some (.ref b :: _, _) => (match h.1 b with | some (c, _) => if inK cs c = true then A ls st h else B ls st h | none => False)
  | _ => False
section CALLS
variable {x : CX} {cc : ByteArray} {own : String} {y : MethodName} {nL : Nat} {ret : Option FieldType} {Q : Rs → HS → Prop} {pc : Nat} {K A B : Ct} {X : Xt}
theorem s_vsel {n : Nat} {cs : List Nat} (ha : Snd x pc A) (hb : Snd x pc B) : Snd x pc (o_vsel n cs A B) := by
  intro ls st h hk H locs lsC hR hL hl
  unfold o_vsel at hk
  split at hk
  · split at hk
    · split at hk
      · exact ha _ _ _ hk H locs lsC hR hL hl
      · exact hb _ _ _ hk H locs lsC hR hL hl
    · exact hk.elim
  · exact hk.elim
/-- what the machine's call gives, goes on abstractly -/
theorem call_end {len : Nat} {ls r st : List Value} {h : HS} {H : Heap} {locs : List Loc} {lsC : Array Slot} {ce sl : Nat} {a : Array Value} (G : Gd x cc own y nL ret Q) (hL : ∀ z ∈ locs, x.2.2.2.1.2.1.heap.size ≤ z.base) (hl : LsOK x.2.2.2.2.1 x.2.2.2.2.2 ls lsC)
    (kk : Snd x (pc + len) K) (hX : SndX x pc X)
    (hc : ∀ T : State, T.heap = H → Stand x.1.1 x.1.2.1 x.1.2.2.1 x.1.2.2.2 x.2.1.1 x.2.1.2.1 x.2.1.2.2.1 x.2.1.2.2.2 x.2.2.1.1 x.2.2.1.2.1 T locs ce sl →
      (∃ (v : Option Value) (vm₁ : Vm) (B : Pt), x.2.1.1.WarmedH vm₁ ∧ Stand x.1.1 x.1.2.1 x.1.2.2.1 x.1.2.2.2 x.2.1.1 x.2.1.2.1 x.2.1.2.2.1 x.2.1.2.2.2 x.2.2.1.1 x.2.2.1.2.1 B.U B.locs B.cells B.slots ∧ rPost (yD x) x.2.2.2.1.2.1 (callPost X K ls r) ⟨T.setVm vm₁, locs, ce, sl⟩ a v B ∧
        ∀ target, Steps x.1.1.tables x.1.2.2.1 x.2.1.2.2.2 (B.U.setTop (F0 (yM x) (pc + len) lsC (v.toList ++ r))) target → Steps x.1.1.tables x.1.2.2.1 x.2.1.2.2.2 (T.setTop (F0 (yM x) pc lsC st)) target) ∨
      (∃ (q : Addr) (vm₁ : Vm) (B : Pt), x.2.1.1.WarmedH vm₁ ∧ Stand x.1.1 x.1.2.1 x.1.2.2.1 x.1.2.2.2 x.2.1.1 x.2.1.2.1 x.2.1.2.2.1 x.2.1.2.2.2 x.2.2.1.1 x.2.2.1.2.1 B.U B.locs B.cells B.slots ∧ rPostX (yD x) x.2.2.2.1.2.1 (callPost X K ls r) ⟨T.setVm vm₁, locs, ce, sl⟩ a q B ∧
        Steps x.1.1.tables x.1.2.2.1 x.2.1.2.2.2 (T.setTop (F0 (yM x) pc lsC st)) ((B.U.setTop (F0 (yM x) pc lsC r)).pushFrame (.throwing q)))) : aW x H locs ce sl (F0 (yM x) pc lsC st) := by
  intro T hT X0
  rcases hc T hT X0 with ⟨v, vm₁, B, -, X', ⟨h', L9, hR', hq, e1, hL9⟩, st9⟩ | ⟨q, vm₁, B, -, X', ⟨h', L9, hR', ⟨hob, hq⟩, e1, hL9⟩, st9⟩
  · have hloc : ∀ z ∈ B.locs, x.2.2.2.1.2.1.heap.size ≤ z.base := by
      rw [e1]
      exact fun z hz => (List.mem_append.mp hz).elim (hL z) (hL9 z)
    have hk : K ls (v.toList ++ r) h' := by cases v <;> exact hq
    obtain ⟨t, a1, b1⟩ := aW_tight (ce := B.cells) (sl := B.slots) G.gr.1 hR' (kk _ _ _ hk _ _ lsC hR' hloc hl) B.U rfl X'
    exact ⟨t, st9 t a1, b1⟩
  · have hloc : ∀ z ∈ B.locs, x.2.2.2.1.2.1.heap.size ≤ z.base := by
      rw [e1]
      exact fun z hz => (List.mem_append.mp hz).elim (hL z) (hL9 z)
    have hk : X ls q h' := hq
    obtain ⟨t, a1, b1⟩ := hX _ _ _ hk B.U.heap B.locs lsC r hR' hloc hl B.U rfl (tighten X' G.gr.1 hR')
    exact ⟨t, st9.trans a1, b1⟩
/-- what a callee asks at the call -/
theorem call_pre {H : Heap} {T : State} {vm₁ : Vm} {h : HS} {locs : List Loc} {as : List Value} (G : Gd x cc own y nL ret Q) (e1 : h.2.2.1 ≤ x.2.2.2.1.2.2.2.2.1) (e2 : h.2.2.2 ≤ x.2.2.2.1.2.2.2.2.2) (hR : RelH (yD x) x.2.2.2.1.2.1 h H) (hT : T.heap = H) (hW : (yS x).WarmedH vm₁) :
    rPre (yD x) x.2.2.2.1.2.1 as h x.1.2.2.2 ⟨T.setVm vm₁, locs, x.2.2.2.1.2.2.2.2.1 - h.2.2.1, x.2.2.2.1.2.2.2.2.2 - h.2.2.2⟩ as.toArray := by
  refine ⟨?_, ?_, rfl, by show RelH _ _ _ T.heap; rw [hT]; exact hR, G.warm.trans hW⟩
  · have := G.gr.2.1
    show x.2.2.2.1.2.2.2.2.1 - h.2.2.1 + h.2.2.1 ≤ _
    omega
  · have := G.gr.2.2
    show x.2.2.2.1.2.2.2.2.2 - h.2.2.2 + h.2.2.2 ≤ _
    omega
/-- the plain facts of a callee's name -/
abbrev nm_ok (z : MethodName) (n : Nat) : Prop := z.cls ≠ "java/lang/invoke/MethodHandle" ∧ z.cls ≠ "java/lang/invoke/VarHandle" ∧ (parseMethodDescriptor z.desc).map (fun d => d.parameters.length) = some n
theorem nm_len {z : MethodName} {n : Nat} (h : nm_ok z n) {as : List Value} (ha : as.length = n) : ∀ sig, parseMethodDescriptor z.desc = some sig → as.length = sig.parameters.length := by
  intro sig hs
  have := h.2.2
  rw [hs] at this
  rw [ha]
  exact (Option.some.inj this).symm
theorem r_rm {r : List Value} (h : catSum r ≤ 8) {g : JFrame} (hg : g.monitorRoom = 0) : 2 * g.monitorRoom + (r.map fun v => v.category).sum ≤ 8 := by
  rw [catSum_eq, hg]; omega
variable {z : MethodName} {bytes : ByteArray} {maxL : Nat} {ret' : Option FieldType} {F L n index : Nat} {wp : Wp}
abbrev rmOk (x : CX) (F L maxL : Nat) : Prop := F + 1 ≤ x.1.2.2.2.frames ∧ 8 + (maxL + 11) + L ≤ x.1.2.2.2.locals
theorem s_callS (G : Gd x cc own y nL ret Q) (hM : rMet x.1.2.1 (yD x) x.2.2.2.1.2.1 z (ws_ z bytes maxL ret') F L wp) (h1 : Cond.methodLink own index z ∈ lw_all) (h2 : Cond.static z ∈ lw_all) (h3 : Cond.initialized z.cls ∈ lw_all) (h4 : Cond.code z bytes maxL ret' ∈ lw_all)
    (hn : nm_ok z n) (hr : rmOk x F L maxL) (d : decode cc pc = .ok (.invokestatic index, 3)) (kk : Snd x (pc + 3) K) (hX : SndX x pc X) : Snd x pc (o_call n wp X K) := by
  intro ls st h hk H locs lsC hR hL hl
  unfold o_call at hk
  split at hk
  · next as r hs =>
    obtain ⟨hA, hc, hwp⟩ := hk
    obtain ⟨rfl, hlen⟩ := splitN_spec _ _ _ _ hs
    refine aW_le G.gr hR fun e1 e2 => call_end (h := h) (r := r) (a := as.toArray) G hL hl kk hX fun T hT X0 => ?_
    have hK := r_back (R := x.1.2.2.2) (p := x.1.1) (e := x.1.2.2.1) (below := x.2.1.2.2.2) (s := yS x) (sargs := yA x) (len := 3) (W9 := 8) hM hA hwp hr.1 hr.2 G.hts h4 h3
    exact vx_callS X0 G.b.1 G.ow (G.hts _ h1) (G.hts _ h2) (G.hts _ h3) (G.hts _ h4) ⟨hn.1, hn.2.1⟩ hK (g := F0 (yM x) pc lsC (as.reverse ++ r)) rfl (by rw [G.ml]; exact hl.1) (argsL := as) (rest := r) (nm_len hn hlen) rfl (r_rm hc rfl) (by rw [G.b.2]; exact d) (fun vm₁ hW => call_pre G e1 e2 hR hT hW)
  · exact hk.elim
theorem s_callSN {host : String} (G : Gd x cc own y nL ret Q) (hM : rMet x.1.2.1 (yD x) x.2.2.2.1.2.1 z (ws_ z bytes maxL ret') F L wp) (h1 : (Cond.methodLinkNest own index z host).before (yA x) (yS x) = true) (h2 : Cond.static z ∈ lw_all) (h3 : Cond.initialized z.cls ∈ lw_all) (h4 : Cond.code z bytes maxL ret' ∈ lw_all)
    (hn : nm_ok z n) (hr : rmOk x F L maxL) (d : decode cc pc = .ok (.invokestatic index, 3)) (kk : Snd x (pc + 3) K) (hX : SndX x pc X) : Snd x pc (o_call n wp X K) := by
  intro ls st h hk H locs lsC hR hL hl
  unfold o_call at hk
  split at hk
  · next as r hs =>
    obtain ⟨hA, hc, hwp⟩ := hk
    obtain ⟨rfl, hlen⟩ := splitN_spec _ _ _ _ hs
    refine aW_le G.gr hR fun e1 e2 => call_end (h := h) (r := r) (a := as.toArray) G hL hl kk hX fun T hT X0 => ?_
    have hK := r_back (R := x.1.2.2.2) (p := x.1.1) (e := x.1.2.2.1) (below := x.2.1.2.2.2) (s := yS x) (sargs := yA x) (len := 3) (W9 := 8) hM hA hwp hr.1 hr.2 G.hts h4 h3
    exact vx_callSN X0 G.b.1 G.ow h1 (G.hts _ h2) (G.hts _ h3) (G.hts _ h4) ⟨hn.1, hn.2.1⟩ hK (g := F0 (yM x) pc lsC (as.reverse ++ r)) rfl (by rw [G.ml]; exact hl.1) (argsL := as) (rest := r) (nm_len hn hlen) rfl (r_rm hc rfl) (by rw [G.b.2]; exact d) (fun vm₁ hW => call_pre G e1 e2 hR hT hW)
  · exact hk.elim
theorem s_callSX {hh : List (Nat × Nat × Nat × Nat)} (G : Gd x cc own y nL ret Q) (hM : rMet x.1.2.1 (yD x) x.2.2.2.1.2.1 z (wsW_ z bytes maxL ret' hh) F L wp) (h1 : Cond.methodLink own index z ∈ lw_all) (h2 : Cond.static z ∈ lw_all) (h3 : Cond.initialized z.cls ∈ lw_all) (h4 : Cond.codeWith z bytes maxL ret' hh ∈ lw_all)
    (hn : nm_ok z n) (hr : rmOk x F L maxL) (d : decode cc pc = .ok (.invokestatic index, 3)) (kk : Snd x (pc + 3) K) (hX : SndX x pc X) : Snd x pc (o_call n wp X K) := by
  intro ls st h hk H locs lsC hR hL hl
  unfold o_call at hk
  split at hk
  · next as r hs =>
    obtain ⟨hA, hc, hwp⟩ := hk
    obtain ⟨rfl, hlen⟩ := splitN_spec _ _ _ _ hs
    refine aW_le G.gr hR fun e1 e2 => call_end (h := h) (r := r) (a := as.toArray) G hL hl kk hX fun T hT X0 => ?_
    have hK := r_backW (R := x.1.2.2.2) (p := x.1.1) (e := x.1.2.2.1) (below := x.2.1.2.2.2) (s := yS x) (sargs := yA x) (len := 3) (W9 := 8) hM hA hwp hr.1 hr.2 G.hts h4 h3
    exact vx_callSX X0 G.b.1 G.ow (G.hts _ h1) (G.hts _ h2) (G.hts _ h3) (G.hts _ h4) ⟨hn.1, hn.2.1⟩ hK (g := F0 (yM x) pc lsC (as.reverse ++ r)) rfl (by rw [G.ml]; exact hl.1) (argsL := as) (rest := r) (nm_len hn hlen) rfl (r_rm hc rfl) (by rw [G.b.2]; exact d) (fun vm₁ hW => call_pre G e1 e2 hR hT hW)
  · exact hk.elim
theorem splitN_ref {m : Nat} {st as r : List Value} {b : Addr} (h : splitN m st = some (.ref b :: as, r)) : st = as.reverse ++ .ref b :: r ∧ as.length + 1 = m := by
  obtain ⟨h1, h2⟩ := splitN_spec _ _ _ _ h
  exact ⟨by rw [h1]; simp, by simpa using h2⟩
theorem okA_ref {b : Addr} {as : List Value} (h : okA as = true) : okA (.ref b :: as) = true := by
  unfold okA at h ⊢
  rw [List.all_cons, h]; rfl
theorem s_callI (G : Gd x cc own y nL ret Q) (hM : rMet x.1.2.1 (yD x) x.2.2.2.1.2.1 z (ws_ z bytes maxL none) F L wp) (hi : z.name = "<init>") (h1 : Cond.methodLink own index z ∈ lw_all) (h2 : Cond.instanceMethod z ∈ lw_all) (h3 : Cond.initialized z.cls ∈ lw_all) (h4 : Cond.code z bytes maxL none ∈ lw_all)
    (hn : nm_ok z n) (hr : rmOk x F L maxL) (d : decode cc pc = .ok (.invokespecial index, 3)) (kk : Snd x (pc + 3) K) (hX : SndX x pc X) : Snd x pc (o_callI (n + 1) wp X K) := by
  intro ls st h hk H locs lsC hR hL hl
  unfold o_callI at hk
  split at hk
  · next b as r hs =>
    obtain ⟨hA, hc, hwp⟩ := hk
    obtain ⟨rfl, hlen⟩ := splitN_ref hs
    refine aW_le G.gr hR fun e1 e2 => call_end (h := h) (r := r) (a := (Value.ref b :: as).toArray) G hL hl kk hX fun T hT X0 => ?_
    have hK := r_back (R := x.1.2.2.2) (p := x.1.1) (e := x.1.2.2.1) (below := x.2.1.2.2.2) (s := yS x) (sargs := yA x) (len := 3) (W9 := 8) hM (okA_ref hA) hwp hr.1 hr.2 G.hts h4 h3
    exact vx_callI X0 G.b.1 G.ow hi (G.hts _ h1) (G.hts _ h2) (G.hts _ h4) ⟨hn.1, hn.2.1⟩ hK (g := F0 (yM x) pc lsC (as.reverse ++ .ref b :: r)) rfl (by rw [G.ml]; exact hl.1) (argsL := as) (rest := r) (nm_len hn (by omega)) rfl (r_rm hc rfl) (by rw [G.b.2]; exact d) (fun vm₁ hW => call_pre G e1 e2 hR hT hW)
  · exact hk.elim
theorem s_callIN {host : String} (G : Gd x cc own y nL ret Q) (hM : rMet x.1.2.1 (yD x) x.2.2.2.1.2.1 z (ws_ z bytes maxL none) F L wp) (hi : z.name = "<init>") (h1 : (Cond.methodLinkNest own index z host).before (yA x) (yS x) = true) (h2 : Cond.instanceMethod z ∈ lw_all) (h3 : Cond.initialized z.cls ∈ lw_all) (h4 : Cond.code z bytes maxL none ∈ lw_all)
    (hn : nm_ok z n) (hr : rmOk x F L maxL) (d : decode cc pc = .ok (.invokespecial index, 3)) (kk : Snd x (pc + 3) K) (hX : SndX x pc X) : Snd x pc (o_callI (n + 1) wp X K) := by
  intro ls st h hk H locs lsC hR hL hl
  unfold o_callI at hk
  split at hk
  · next b as r hs =>
    obtain ⟨hA, hc, hwp⟩ := hk
    obtain ⟨rfl, hlen⟩ := splitN_ref hs
    refine aW_le G.gr hR fun e1 e2 => call_end (h := h) (r := r) (a := (Value.ref b :: as).toArray) G hL hl kk hX fun T hT X0 => ?_
    have hK := r_back (R := x.1.2.2.2) (p := x.1.1) (e := x.1.2.2.1) (below := x.2.1.2.2.2) (s := yS x) (sargs := yA x) (len := 3) (W9 := 8) hM (okA_ref hA) hwp hr.1 hr.2 G.hts h4 h3
    exact vx_callIN X0 G.b.1 G.ow hi h1 (G.hts _ h2) (G.hts _ h4) ⟨hn.1, hn.2.1⟩ hK (g := F0 (yM x) pc lsC (as.reverse ++ .ref b :: r)) rfl (by rw [G.ml]; exact hl.1) (argsL := as) (rest := r) (nm_len hn (by omega)) rfl (r_rm hc rfl) (by rw [G.b.2]; exact d) (fun vm₁ hW => call_pre G e1 e2 hR hT hW)
  · exact hk.elim
/-- the receiver's cell -/
theorem rcv_of {D : DE} {s0 s : State} {h : HS} {H : Heap} (hKn : Kn D s) (hR : RelH D s0 h H) {cs : List Nat} (hcs : ∀ c ∈ cs, c < 23) {b c : Nat} {vs : List Value} (hσ : h.1 b = some (c, vs)) (hin : inK cs c = true) :
    ∃ (cell : Cell) (r : vw_C) (k : Class), ckl[kd c]? = some r ∧ kd c ∈ cs ∧ H[b]? = some cell ∧ cell.vm.isStatics = false ∧ s.vm.findClass r.1 = some cell.cls ∧ s.vm.classes[cell.cls]? = some k := by
  obtain ⟨cell, q1, q2, q3, q4, q5, q6, -⟩ := hR.2.2.2.2.2 b _ hσ
  have hm := inK_spec hin
  have hlt := hcs _ hm
  obtain ⟨r2, f1, -⟩ := q6 (by show kd c < 99; omega)
  have hfc := (hKn.1 _ _ f1).1
  obtain ⟨ks, hks, -⟩ := Vm.findClass_spec hfc
  exact ⟨cell, r2, ks, f1, hm, q1, q4, by rw [cls_ne q2 (by show kd c ≠ 100; omega)]; exact hfc, by rw [cls_ne q2 (by show kd c ≠ 100; omega)]; exact hks⟩
/-- the kinds' classes select that method -/
abbrev selOk (cs : List Nat) (w z : MethodName) : Prop := ∀ c ∈ cs, c < 23 ∧ ∀ r, ckl[c]? = some r → Cond.selects r.1 w z ∈ lw_all
theorem s_callV {cs : List Nat} (G : Gd x cc own y nL ret Q) (hM : rMet x.1.2.1 (yD x) x.2.2.2.1.2.1 z (ws_ z bytes maxL ret') F L wp) (h1 : Cond.methodLink own index z ∈ lw_all) (h2 : Cond.instanceMethod z ∈ lw_all) (hs9 : selOk cs z z) (h3 : Cond.initialized z.cls ∈ lw_all) (h4 : Cond.code z bytes maxL ret' ∈ lw_all)
    (hn : nm_ok z n) (hr : rmOk x F L maxL) (d : decode cc pc = .ok (.invokevirtual index, 3)) (kk : Snd x (pc + 3) K) (hX : SndX x pc X) : Snd x pc (o_callV cs (n + 1) wp X K) := by
  intro ls st h hk H locs lsC hR hL hl
  unfold o_callV at hk
  split at hk
  · next b as r hs =>
    split at hk
    · next c vs hσ =>
      obtain ⟨hin, hA, hc, hwp⟩ := hk
      obtain ⟨rfl, hlen⟩ := splitN_ref hs
      obtain ⟨cell, r2, ks, f1, f2, f3, f4, f5, -⟩ := rcv_of G.kn hR (fun c hc => (hs9 c hc).1) hσ hin
      refine aW_le G.gr hR fun e1 e2 => call_end (h := h) (r := r) (a := (Value.ref b :: as).toArray) G hL hl kk hX fun T hT X0 => ?_
      have hK := r_back (R := x.1.2.2.2) (p := x.1.1) (e := x.1.2.2.1) (below := x.2.1.2.2.2) (s := yS x) (sargs := yA x) (len := 3) (W9 := 8) hM (okA_ref hA) hwp hr.1 hr.2 G.hts h4 h3
      exact vx_callV X0 G.b.1 G.ow (G.hts _ h1) (G.hts _ h2) (G.hts _ ((hs9 _ f2).2 _ f1)) (G.hts _ h4) ⟨hn.1, hn.2.1⟩ hK (by rw [hT]; exact f3) f4 f5 (g := F0 (yM x) pc lsC (as.reverse ++ .ref b :: r)) rfl (by rw [G.ml]; exact hl.1) (argsL := as) (rest := r) (nm_len hn (by omega)) rfl (r_rm hc rfl) (by rw [G.b.2]; exact d) (fun vm₁ hW => call_pre G e1 e2 hR hT hW)
    · exact hk.elim
  · exact hk.elim
theorem s_callVX {cs : List Nat} {hh : List (Nat × Nat × Nat × Nat)} (G : Gd x cc own y nL ret Q) (hM : rMet x.1.2.1 (yD x) x.2.2.2.1.2.1 z (wsW_ z bytes maxL ret' hh) F L wp) (h1 : Cond.methodLink own index z ∈ lw_all) (h2 : Cond.instanceMethod z ∈ lw_all) (hs9 : selOk cs z z) (h3 : Cond.initialized z.cls ∈ lw_all) (h4 : Cond.codeWith z bytes maxL ret' hh ∈ lw_all)
    (hn : nm_ok z n) (hr : rmOk x F L maxL) (d : decode cc pc = .ok (.invokevirtual index, 3)) (kk : Snd x (pc + 3) K) (hX : SndX x pc X) : Snd x pc (o_callV cs (n + 1) wp X K) := by
  intro ls st h hk H locs lsC hR hL hl
  unfold o_callV at hk
  split at hk
  · next b as r hs =>
    split at hk
    · next c vs hσ =>
      obtain ⟨hin, hA, hc, hwp⟩ := hk
      obtain ⟨rfl, hlen⟩ := splitN_ref hs
      obtain ⟨cell, r2, ks, f1, f2, f3, f4, f5, -⟩ := rcv_of G.kn hR (fun c hc => (hs9 c hc).1) hσ hin
      refine aW_le G.gr hR fun e1 e2 => call_end (h := h) (r := r) (a := (Value.ref b :: as).toArray) G hL hl kk hX fun T hT X0 => ?_
      have hK := r_backW (R := x.1.2.2.2) (p := x.1.1) (e := x.1.2.2.1) (below := x.2.1.2.2.2) (s := yS x) (sargs := yA x) (len := 3) (W9 := 8) hM (okA_ref hA) hwp hr.1 hr.2 G.hts h4 h3
      exact vx_callVX X0 G.b.1 G.ow (G.hts _ h1) (G.hts _ h2) (G.hts _ ((hs9 _ f2).2 _ f1)) (G.hts _ h4) ⟨hn.1, hn.2.1⟩ hK (by rw [hT]; exact f3) f4 f5 (g := F0 (yM x) pc lsC (as.reverse ++ .ref b :: r)) rfl (by rw [G.ml]; exact hl.1) (argsL := as) (rest := r) (nm_len hn (by omega)) rfl (r_rm hc rfl) (by rw [G.b.2]; exact d) (fun vm₁ hW => call_pre G e1 e2 hR hT hW)
    · exact hk.elim
  · exact hk.elim
theorem s_callVN {cs : List Nat} {host : String} (G : Gd x cc own y nL ret Q) (hM : rMet x.1.2.1 (yD x) x.2.2.2.1.2.1 z (ws_ z bytes maxL ret') F L wp) (h1 : (Cond.methodLinkNest own index z host).before (yA x) (yS x) = true) (h2 : Cond.instanceMethod z ∈ lw_all) (hs9 : selOk cs z z) (h3 : Cond.initialized z.cls ∈ lw_all) (h4 : Cond.code z bytes maxL ret' ∈ lw_all)
    (hn : nm_ok z n) (hr : rmOk x F L maxL) (d : decode cc pc = .ok (.invokevirtual index, 3)) (kk : Snd x (pc + 3) K) (hX : SndX x pc X) : Snd x pc (o_callV cs (n + 1) wp X K) := by
  intro ls st h hk H locs lsC hR hL hl
  unfold o_callV at hk
  split at hk
  · next b as r hs =>
    split at hk
    · next c vs hσ =>
      obtain ⟨hin, hA, hc, hwp⟩ := hk
      obtain ⟨rfl, hlen⟩ := splitN_ref hs
      obtain ⟨cell, r2, ks, f1, f2, f3, f4, f5, -⟩ := rcv_of G.kn hR (fun c hc => (hs9 c hc).1) hσ hin
      refine aW_le G.gr hR fun e1 e2 => call_end (h := h) (r := r) (a := (Value.ref b :: as).toArray) G hL hl kk hX fun T hT X0 => ?_
      have hK := r_back (R := x.1.2.2.2) (p := x.1.1) (e := x.1.2.2.1) (below := x.2.1.2.2.2) (s := yS x) (sargs := yA x) (len := 3) (W9 := 8) hM (okA_ref hA) hwp hr.1 hr.2 G.hts h4 h3
      exact vx_callVN X0 G.b.1 G.ow h1 (G.hts _ h2) (G.hts _ ((hs9 _ f2).2 _ f1)) (G.hts _ h4) ⟨hn.1, hn.2.1⟩ hK (by rw [hT]; exact f3) f4 f5 (g := F0 (yM x) pc lsC (as.reverse ++ .ref b :: r)) rfl (by rw [G.ml]; exact hl.1) (argsL := as) (rest := r) (nm_len hn (by omega)) rfl (r_rm hc rfl) (by rw [G.b.2]; exact d) (fun vm₁ hW => call_pre G e1 e2 hR hT hW)
    · exact hk.elim
  · exact hk.elim
/-- a method named by w, found at its owner, selected as z -/
theorem s_callVU {cs : List Nat} {w : MethodName} {owner : String} (G : Gd x cc own y nL ret Q) (hM : rMet x.1.2.1 (yD x) x.2.2.2.1.2.1 z (ws_ z bytes maxL ret') F L wp) (h1 : Cond.methodLink own index w ∈ lw_all) (hsm : Cond.sameMethod w.cls owner w.name w.desc ∈ lw_all) (hd0 : va_Decl (yS x) ⟨owner, w.name, w.desc⟩) (ho : owner ≠ "java/lang/invoke/MethodHandle" ∧ owner ≠ "java/lang/invoke/VarHandle")
    (h2 : Cond.instanceMethod z ∈ lw_all) (hs9 : selOk cs w z) (h3 : Cond.initialized z.cls ∈ lw_all) (h4 : Cond.code z bytes maxL ret' ∈ lw_all)
    (hn : nm_ok w n) (hr : rmOk x F L maxL) (d : decode cc pc = .ok (.invokevirtual index, 3)) (kk : Snd x (pc + 3) K) (hX : SndX x pc X) : Snd x pc (o_callV cs (n + 1) wp X K) := by
  intro ls st h hk H locs lsC hR hL hl
  unfold o_callV at hk
  split at hk
  · next b as r hs =>
    split at hk
    · next c vs hσ =>
      obtain ⟨hin, hA, hc, hwp⟩ := hk
      obtain ⟨rfl, hlen⟩ := splitN_ref hs
      obtain ⟨cell, r2, ks, f1, f2, f3, f4, f5, -⟩ := rcv_of G.kn hR (fun c hc => (hs9 c hc).1) hσ hin
      refine aW_le G.gr hR fun e1 e2 => call_end (h := h) (r := r) (a := (Value.ref b :: as).toArray) G hL hl kk hX fun T hT X0 => ?_
      have hK := r_back (R := x.1.2.2.2) (p := x.1.1) (e := x.1.2.2.1) (below := x.2.1.2.2.2) (s := yS x) (sargs := yA x) (len := 3) (W9 := 8) hM (okA_ref hA) hwp hr.1 hr.2 G.hts h4 h3
      exact vx_callVU X0 G.b.1 G.ow (G.hts _ h1) (G.hts _ hsm) hd0 ho (G.hts _ ((hs9 _ f2).2 _ f1)) (G.hts _ h2) (G.hts _ h4) hK (by rw [hT]; exact f3) f4 f5 (g := F0 (yM x) pc lsC (as.reverse ++ .ref b :: r)) rfl (by rw [G.ml]; exact hl.1) (argsL := as) (rest := r) (nm_len hn (by omega)) rfl (r_rm hc rfl) (by rw [G.b.2]; exact d) (fun vm₁ hW => call_pre G e1 e2 hR hT hW)
    · exact hk.elim
  · exact hk.elim
/-- super.method -/
theorem s_callSU {cs : List Nat} (hcs : ∀ c ∈ cs, c < 23) (G : Gd x cc own y nL ret Q) (hM : rMet x.1.2.1 (yD x) x.2.2.2.1.2.1 z (ws_ z bytes maxL ret') F L wp) (h1 : Cond.methodLink own index z ∈ lw_all) (hsm : Cond.sameMethod z.cls z.cls z.name z.desc ∈ lw_all) (hsup : Cond.superclass own z.cls ∈ lw_all)
    (h2 : Cond.instanceMethod z ∈ lw_all) (h3 : Cond.initialized z.cls ∈ lw_all) (h4 : Cond.code z bytes maxL ret' ∈ lw_all) (hno : z.name ≠ "<init>")
    (hn : nm_ok z n) (hr : rmOk x F L maxL) (d : decode cc pc = .ok (.invokespecial index, 3)) (kk : Snd x (pc + 3) K) (hX : SndX x pc X) : Snd x pc (o_callV cs (n + 1) wp X K) := by
  intro ls st h hk H locs lsC hR hL hl
  unfold o_callV at hk
  split at hk
  · next b as r hs =>
    split at hk
    · next c vs hσ =>
      obtain ⟨hin, hA, hc, hwp⟩ := hk
      obtain ⟨rfl, hlen⟩ := splitN_ref hs
      obtain ⟨cell, r2, ks, f1, f2, f3, f4, f5, f6⟩ := rcv_of G.kn hR hcs hσ hin
      refine aW_le G.gr hR fun e1 e2 => call_end (h := h) (r := r) (a := (Value.ref b :: as).toArray) G hL hl kk hX fun T hT X0 => ?_
      have hK := r_back (R := x.1.2.2.2) (p := x.1.1) (e := x.1.2.2.1) (below := x.2.1.2.2.2) (s := yS x) (sargs := yA x) (len := 3) (W9 := 8) hM (okA_ref hA) hwp hr.1 hr.2 G.hts h4 h3
      exact vx_callSU X0 G.b.1 G.ow (G.hts _ h1) (G.hts _ hsm) (G.hts _ hsup) (G.hts _ h2) (G.hts _ h4) hno hK (by rw [hT]; exact f3) f4 f6 (g := F0 (yM x) pc lsC (as.reverse ++ .ref b :: r)) rfl (by rw [G.ml]; exact hl.1) (argsL := as) (rest := r) (nm_len hn (by omega)) rfl (r_rm hc rfl) (by rw [G.b.2]; exact d) (fun vm₁ hW => call_pre G e1 e2 hR hT hW)
    · exact hk.elim
  · exact hk.elim
/-- a method of an interface, for receivers of one kind -/
theorem s_callF {c0 : Nat} {r0 : vw_C} {w : MethodName} {count : Nat} (h23 : c0 < 23) (hr0 : ckl[c0]? = some r0) (G : Gd x cc own y nL ret Q) (hM : rMet x.1.2.1 (yD x) x.2.2.2.1.2.1 z (ws_ z bytes maxL ret') F L wp) (h1 : Cond.methodLink own index w ∈ lw_all) (hfw : va_Fw r0.1 w z (yS x)) (hsel : Cond.selects r0.1 w z ∈ lw_all)
    (h2 : Cond.instanceMethod z ∈ lw_all) (h3 : Cond.initialized z.cls ∈ lw_all) (h4 : Cond.code z bytes maxL ret' ∈ lw_all)
    (hn : nm_ok w n) (hr : rmOk x F L maxL) (d : decode cc pc = .ok (.invokeinterface index count, 5)) (kk : Snd x (pc + 5) K) (hX : SndX x pc X) : Snd x pc (o_callV [c0] (n + 1) wp X K) := by
  intro ls st h hk H locs lsC hR hL hl
  unfold o_callV at hk
  split at hk
  · next b as r hs =>
    split at hk
    · next c vs hσ =>
      obtain ⟨hin, hA, hc, hwp⟩ := hk
      obtain ⟨rfl, hlen⟩ := splitN_ref hs
      obtain ⟨cell, r2, ks, f1, f2, f3, f4, f5, f6⟩ := rcv_of G.kn hR (fun c hc => by rw [List.mem_singleton.mp hc]; exact h23) hσ hin
      rw [List.mem_singleton.mp f2] at f1
      cases Option.some.inj (f1.symm.trans hr0)
      refine aW_le G.gr hR fun e1 e2 => call_end (h := h) (r := r) (a := (Value.ref b :: as).toArray) G hL hl kk hX fun T hT X0 => ?_
      have hK := r_back (R := x.1.2.2.2) (p := x.1.1) (e := x.1.2.2.1) (below := x.2.1.2.2.2) (s := yS x) (sargs := yA x) (len := 5) (W9 := 8) hM (okA_ref hA) hwp hr.1 hr.2 G.hts h4 h3
      obtain ⟨w1, w2, w3, w4, w5⟩ := hfw
      exact vx_callIF X0 G.b.1 G.ow (G.hts _ h1) (va_tabs rfl rfl w1) (va_tabs rfl rfl w2) (G.hts _ hsel) (G.hts _ h2) (va_tabs rfl rfl w3) (va_tabs rfl rfl w4) (va_tabs rfl rfl w5) (G.hts _ h4) ⟨hn.1, hn.2.1⟩ hK (by rw [hT]; exact f3) f4 f5 f6 (g := F0 (yM x) pc lsC (as.reverse ++ .ref b :: r)) rfl (by rw [G.ml]; exact hl.1) (argsL := as) (rest := r) (nm_len hn (by omega)) rfl (r_rm hc rfl) (by rw [G.b.2]; exact d) (fun vm₁ hW => call_pre G e1 e2 hR hT hW)
    · exact hk.elim
  · exact hk.elim
end CALLS
