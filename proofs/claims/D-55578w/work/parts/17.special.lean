/-! SPECIAL ABSTRACT INSTRUCTIONS: arraycopy and clone, the lambda, getCause; what is known at the start -/
set_option maxRecDepth 100000
/-- System.arraycopy between arrays of bytes -/
def o_acopy (K : Ct) : Ct := fun ls st h => match st with
  | .int n :: .int dp :: .ref a :: .int sp :: .ref a0 :: r => (match h.1 a0, h.1 a with
    | some (c0, us), some (c, vs) => kd c0 = 102 ∧ c = 102 ∧ ¬ sp < 0 ∧ ¬ dp < 0 ∧ ¬ n < 0 ∧ sp.toNatClampNeg + n.toNatClampNeg ≤ us.length ∧ dp.toNatClampNeg + n.toNatClampNeg ≤ vs.length ∧ (∀ v ∈ us, fits .byte v = true) ∧ catSum r ≤ 8 ∧
        K ls r (hset h a (c, vs.take dp.toNatClampNeg ++ (us.drop sp.toNatClampNeg).take n.toNatClampNeg ++ vs.drop (dp.toNatClampNeg + n.toNatClampNeg)))
    | _, _ => False)
  | _ => False
/-- an array's clone -/
def o_clone (c0 : Nat) (ty : FieldType) (K : Ct) : Ct := fun ls st h => match st with
  | .ref a :: r => (match h.1 a with | some (c, vs) => kd c = c0 ∧ 1 ≤ h.2.2.1 ∧ vs.length ≤ h.2.2.2 ∧ (∀ v ∈ vs, fits ty v = true) ∧ catSum r ≤ 8 ∧ K ls (.ref h.2.1 :: r) (hnew h (c0, vs) vs.length) | none => False)
  | _ => False
/-- the lambda is made: it keeps one int -/
def o_lam (K : Ct) : Ct := fun ls st h => match st with
  | .int k :: r => 1 ≤ h.2.2.1 ∧ 1 ≤ h.2.2.2 ∧ catSum r ≤ 8 ∧ K ls (.ref h.2.1 :: r) (hnew h (99, [.int k]) 1)
  | _ => False
/-- the lambda is called: wp is its own method's -/
def wLam (wp : Wp) : Wp := fun av h Q => match av with
  | [.ref t, .ref a] => (match h.1 t, h.1 a with | some (c, [.int k]), some (ca, _) => c = 99 ∧ inK [10, 11] ca = true ∧ wp [.int k, .ref a] h Q | _, _ => False)
  | _ => False
def o_callLam (wp : Wp) (X : Xt) (K : Ct) : Ct := fun ls st h => match splitN 2 st with
  | some (as, r) => okA as = true ∧ catSum r ≤ 8 ∧ wLam wp as h (callPost X K ls r)
  | none => False
/-- Throwable.getCause -/
def o_getCause (K : Ct) : Ct := fun ls st h => match st with
  | .ref a :: r => (match h.1 a with | some (c, v :: _) => (c < 200 ∧ inK [9] c = true) ∧ catSum r ≤ 8 ∧ (if v = .ref a then K ls (.null :: r) h else (∃ q, v = va_rf q) ∧ K ls (v :: r) h) | _ => False)
  | _ => False
/-- the sign of the constant that is none of the letters -/
def o_sign1 (K : Ct) : Ct := fun ls st h => match st with
  | .ref b :: r => (match h.1 b with | some (c, _) => inK [22] c = true ∧ catSum r ≤ 8 ∧ K ls (.int 45 :: r) h | none => False)
  | _ => False
/-- THE SPECIAL INSTRUCTIONS' OWN ROWS: shown at the end -/
abbrev XAt (x : CX) (l : Launch) (D : DE) (s0 : State) : Prop := x.1.2.1 = l ∧ yD x = D ∧ x.2.2.2.1.2.1 = s0
def SPlam (l : Launch) (D : DE) (s0 : State) : Prop := ∀ (x : CX) (cc : ByteArray) (nL : Nat) (ret : Option FieldType) (Q : Rs → HS → Prop) (K : Ct), XAt x l D s0 → Gd x cc "ChantRules" yX0_init nL ret Q → rmOk x 0 3100 0 → decode cc 85 = .ok (.invokedynamic 52, 5) → Snd x 90 K → Snd x 85 (o_lam K)
def SPacopy (l : Launch) (D : DE) (s0 : State) : Prop := ∀ (x : CX) (cc : ByteArray) (own : String) (y : MethodName) (nL : Nat) (ret : Option FieldType) (Q : Rs → HS → Prop) (K : Ct) (pc index : Nat), XAt x l D s0 → Gd x cc own y nL ret Q → rmOk x 1 60 5 →
  Cond.methodLink own index ⟨"java/lang/System", "arraycopy", "(Ljava/lang/Object;ILjava/lang/Object;II)V"⟩ ∈ lw_all → decode cc pc = .ok (.invokestatic index, 3) → Snd x (pc + 3) K → Snd x pc (o_acopy K)
def SPclone (l : Launch) (D : DE) (s0 : State) (nm : String) (c0 : Nat) (ty : FieldType) : Prop := ∀ (x : CX) (cc : ByteArray) (own : String) (y : MethodName) (nL : Nat) (ret : Option FieldType) (Q : Rs → HS → Prop) (K : Ct) (pc index : Nat), XAt x l D s0 → Gd x cc own y nL ret Q → rmOk x 1 60 5 →
  Cond.methodLink own index ⟨nm, "clone", "()Ljava/lang/Object;"⟩ ∈ lw_all → decode cc pc = .ok (.invokevirtual index, 3) → Snd x (pc + 3) K → Snd x pc (o_clone c0 ty K)
def SPcause (l : Launch) (D : DE) (s0 : State) : Prop := ∀ (x : CX) (cc : ByteArray) (own : String) (y : MethodName) (nL : Nat) (ret : Option FieldType) (Q : Rs → HS → Prop) (K : Ct) (pc index : Nat), XAt x l D s0 → Gd x cc own y nL ret Q → rmOk x 2 100 5 →
  Cond.methodLink own index ⟨"ChantRules$Refused", "getCause", "()Ljava/lang/Throwable;"⟩ ∈ lw_all → decode cc pc = .ok (.invokevirtual index, 3) → Snd x (pc + 3) K → Snd x pc (o_getCause K)
def SPsign (l : Launch) (D : DE) (s0 : State) : Prop := ∀ (x : CX) (cc : ByteArray) (own : String) (y : MethodName) (nL : Nat) (ret : Option FieldType) (Q : Rs → HS → Prop) (K : Ct) (pc index : Nat), XAt x l D s0 → Gd x cc own y nL ret Q → rmOk x 2 100 5 →
  Cond.methodLink own index ⟨"ChantRules$Sound", "sign", "()C"⟩ ∈ lw_all → decode cc pc = .ok (.invokevirtual index, 3) → Snd x (pc + 3) K → Snd x pc (o_sign1 K)
/-- an answer of a method that answers a boolean -/
def tyB : Rs → Prop
  | .inl (some (.int w)) => narrow .boolean (.int w) = .int w
  | .inl _ => False
  | .inr _ => True
def SPcall (l : Launch) (D : DE) (s0 : State) : Prop := ∀ (x : CX) (cc : ByteArray) (own : String) (y : MethodName) (nL : Nat) (ret : Option FieldType) (Q : Rs → HS → Prop) (K : Ct) (X : Xt) (pc index : Nat) (wp : Wp), XAt x l D s0 → Gd x cc own y nL ret Q → rmOk x 5 150 5 →
  (∀ (av : List Value) (h : HS) (Q : Rs → HS → Prop), wp av h Q → wp av h (fun rs h' => Q rs h' ∧ tyB rs)) →
  rMet l D s0 yX0_lambda_new_0 (ws_ yX0_lambda_new_0 cX0_lambda_new_0 2 (some .boolean)) 3 84 wp →
  Cond.methodLink own index ⟨"ChantRules$Test", "is", "(LChantRules$Arc;)Z"⟩ ∈ lw_all → decode cc pc = .ok (.invokeinterface index 2, 5) → Snd x (pc + 5) K → SndX x pc X → Snd x pc (o_callLam wp X K)
def SPC (l : Launch) (D : DE) (s0 : State) : Prop := SPlam l D s0 ∧ SPacopy l D s0 ∧ SPclone l D s0 "[B" 102 .byte ∧ SPclone l D s0 "[LChantRules$Sound;" 107 (.object "ChantRules$Sound") ∧ SPcause l D s0 ∧ SPsign l D s0 ∧ SPcall l D s0
/-- static fields and string constants whose values are known at the start: E i of the i-th, E (100 + i) -/
def sttab : List (String × String × String) := [("ChantRules$Sound", "$VALUES", "[LChantRules$Sound;"), ("ChantRules$Sound", "A", "LChantRules$Sound;"), ("ChantRules$Sound", "B", "LChantRules$Sound;"), ("ChantRules$Sound", "C", "LChantRules$Sound;"), ("ChantRules$Sound", "D", "LChantRules$Sound;"), ("ChantRules$Sound", "NO_SOUND", "LChantRules$Sound;"), ("java/lang/Integer", "DigitOnes", "[B"), ("java/lang/Integer", "DigitTens", "[B"), ("java/lang/String", "COMPACT_STRINGS", "Z"), ("java/lang/StringUTF16", "$assertionsDisabled", "Z"), ("java/lang/StringUTF16", "HI_BYTE_SHIFT", "I"), ("java/lang/StringUTF16", "LO_BYTE_SHIFT", "I"), ("java/lang/Throwable", "SUPPRESSED_SENTINEL", "Ljava/util/List;"), ("java/lang/Throwable", "UNASSIGNED_STACK", "[Ljava/lang/StackTraceElement;"), ("java/util/ArrayList", "DEFAULTCAPACITY_EMPTY_ELEMENTDATA", "[Ljava/lang/Object;"), ("java/util/ArrayList", "EMPTY_ELEMENTDATA", "[Ljava/lang/Object;"), ("jdk/internal/util/Preconditions", "SIOOBE_FORMATTER", "Ljava/util/function/BiFunction;")]
def srtab : List (String × Nat × String) := [("ChantRules", 36, ""), ("ChantRules$Choir", 151, ""), ("ChantRules$Reader", 94, "sfawdt"), ("ChantRules$Rule", 141, ","), ("ChantRules$Rule", 143, ""), ("ChantRules$Rule", 152, "!"), ("ChantRules$Rule", 154, "=")]
/-- the script, as the constants tell it -/
def scrE (E : Nat → Value) (a : Nat) : Option (Nat × List Value) := if E 17 = .ref a then some (300, (List.range (match E 18 with | .int n => n.toNatClampNeg | _ => 0)).map (fun j => E (200 + j))) else none
def SCR (s0 : State) (E : Nat → Value) : Prop := ∀ (a c : Nat) (vs : List Value), scrE E a = some (c, vs) → ∃ cell : Cell, s0.heap[a]? = some cell ∧ s0.isArrayOf cell .int ∧ cell.vm ≠ .unknown ∧ cell.slots = vs.toArray
/-- WHAT IS KNOWN AT THE START -/
def EV (l : Launch) (D : DE) (s0 : State) (E : Nat → Value) : Prop :=
  Kn D s0 ∧ (∀ w ∈ lw_tbl, w.onTables = true → va_Nw w s0) ∧ (∀ (i : Nat) (q : String × String × String), sttab[i]? = some q → va_Z q.1 q.2.1 q.2.2 (E i) (fun a => s0.heap.size ≤ a) s0 s0.heap) ∧
  (∀ (i : Nat) (q : String × Nat × String), srtab[i]? = some q → ∃ a, E (100 + i) = .ref a ∧ vk_R q.1 q.2.1 q.2.2 a s0) ∧ (∀ C, Cond.arrayOver (.object C) ∈ lw_tbl → va_AO C s0) ∧ l.flags = flags0 ∧ SPC l D s0 ∧ SCR s0 E

section EVU
variable {l : Launch} {D : DE} {s0 : State} {E : Nat → Value}
theorem EV.kn (h : EV l D s0 E) : Kn D s0 := h.1
theorem EV.nw (h : EV l D s0 E) {w : Cond} (hw : w ∈ lw_tbl) (ho : w.onTables = true) : va_Nw w s0 := h.2.1 w hw ho
theorem EV.st (h : EV l D s0 E) (i : Nat) {q : String × String × String} (hq : sttab[i]? = some q) : va_Z q.1 q.2.1 q.2.2 (E i) (fun a => s0.heap.size ≤ a) s0 s0.heap := h.2.2.1 i q hq
theorem EV.sr (h : EV l D s0 E) (i : Nat) {q : String × Nat × String} (hq : srtab[i]? = some q) : ∃ a, E (100 + i) = .ref a ∧ vk_R q.1 q.2.1 q.2.2 a s0 := h.2.2.2.1 i q hq
theorem EV.sp (h : EV l D s0 E) : SPC l D s0 := h.2.2.2.2.2.2.1
theorem EV.scr (h : EV l D s0 E) : SCR s0 E := h.2.2.2.2.2.2.2
end EVU
theorem EV.ao {l : Launch} {D : DE} {s0 : State} {E : Nat → Value} (h : EV l D s0 E) {C : String} (hw : Cond.arrayOver (.object C) ∈ lw_tbl) : va_AO C s0 := h.2.2.2.2.1 C hw
/-! lists of kinds, one behind the other -/
theorem fa_nil {k : Nat} {decl name desc : String} : fieldAt [] k decl name desc := fun c hc => nomatch hc
theorem fa_cons {c k : Nat} {cs : List Nat} {r : vw_C} {decl name desc : String} (h1 : ckl[c]? = some r) (h2 : k < r.2.2) (h3 : (r.2.1 k).1 = decl) (h4 : (r.2.1 k).2.1 = name) (h5 : (r.2.1 k).2.2.1 = desc) (h : fieldAt cs k decl name desc) : fieldAt (c :: cs) k decl name desc := by
  intro c' hc'
  rcases List.mem_cons.mp hc' with e | e
  · exact ⟨r, by rw [e]; exact h1, h2, h3, h4, h5⟩
  · exact h c' e
theorem la_nil {x : CX} {decl name desc : String} : layAt [] decl name desc x := fun c hc => nomatch hc
theorem la_cons {x : CX} {c : Nat} {cs : List Nat} {r : vw_C} {decl name desc : String} (hts : ∀ w ∈ lw_all, w.before (yA x) (yS x) = true) (h1 : c < 21) (h2 : ckl[c]? = some r) (h3 : Cond.lays r.1 decl name desc ∈ lw_all) (h : layAt cs decl name desc x) : layAt (c :: cs) decl name desc x := by
  intro c' hc'
  rcases List.mem_cons.mp hc' with e | e
  · refine ⟨by rw [e]; exact h1, fun r' hr' => ?_⟩
    rw [e] at hr'
    cases Option.some.inj (h2.symm.trans hr')
    exact hts _ h3
  · exact h c' e
theorem sel_nil {w z : MethodName} : selOk [] w z := fun c hc => nomatch hc
theorem sel_cons {c : Nat} {cs : List Nat} {r : vw_C} {w z : MethodName} (h1 : c < 23) (h2 : ckl[c]? = some r) (h3 : Cond.selects r.1 w z ∈ lw_all) (h : selOk cs w z) : selOk (c :: cs) w z := by
  intro c' hc'
  rcases List.mem_cons.mp hc' with e | e
  · refine ⟨by rw [e]; exact h1, fun r' hr' => ?_⟩
    rw [e] at hr'
    cases Option.some.inj (h2.symm.trans hr')
    exact h3
  · exact h c' e
theorem rm_of {x : CX} {F L a b maxL : Nat} (h : x.1.2.2.2.frames = a ∧ x.1.2.2.2.locals = b) (h1 : F + 1 ≤ a) (h2 : 8 + (maxL + 11) + L ≤ b) : rmOk x F L maxL := ⟨by rw [h.1]; exact h1, by rw [h.2]; exact h2⟩
/-! rows for the special instructions -/
section SPEC
variable {x : CX} {cc : ByteArray} {own : String} {y : MethodName} {nL : Nat} {ret : Option FieldType} {Q : Rs → HS → Prop} {pc : Nat} {K : Ct} {X : Xt} {E : Nat → Value}
abbrev EX (x : CX) (E : Nat → Value) : Prop := EV x.1.2.1 (yD x) x.2.2.2.1.2.1 E
theorem s_getst {C n dd : String} {index i : Nat} (EN : EX x E) (G : Gd x cc own y nL ret Q) (hl : Cond.fieldLink own index C n dd ∈ lw_all) (hq : sttab[i]? = some (C, n, dd)) (d : decode cc pc = .ok (.getstatic index, 3)) (kk : Snd x (pc + 3) K) : Snd x pc (o_push (E i) K) :=
  s_gets G.b G.ow (G.hts _ hl) (fun _ h => h) (va_Z.moved G.warm.alike (EN.st i hq)) d kk
theorem s_ldcSt {tx : String} {index i : Nat} (EN : EX x E) (G : Gd x cc own y nL ret Q) (hq : srtab[i]? = some (own, index, tx)) (d : decode cc pc = .ok (.ldc index, 2)) (kk : Snd x (pc + 2) K) : Snd x pc (o_push (E (100 + i)) K) := by
  obtain ⟨a, e1, e2⟩ := EN.sr i hq
  rw [e1]
  exact s_ldcS G.b G.ow (vk_R.warm G.warm e2) d kk
/-- reading the script -/
def o_slen (E : Nat → Value) (K : Ct) : Ct := fun ls st h => match st with
  | .ref a :: r => (match scrE E a with | some (_, vs) => K ls (.int vs.length.toInt32 :: r) h | none => False)
  | _ => False
def o_sld (E : Nat → Value) (K : Ct) : Ct := fun ls st h => match st with
  | .int i :: .ref a :: r => (match scrE E a with | some (_, vs) => ¬ i < 0 ∧ (match vs[i.toNatClampNeg]? with | some v => K ls (v :: r) h | none => False) | none => False)
  | _ => False
theorem scr_cell (EN : EX x E) (G : Gd x cc own y nL ret Q) {h : HS} {H : Heap} (hR : RelH x.2.2.2.1.1 x.2.2.2.1.2.1 h H) {a c : Nat} {vs : List Value} (hσ : scrE E a = some (c, vs)) : ∃ cell : Cell, H[a]? = some cell ∧ (yS x).isArrayOf cell .int ∧ cell.vm ≠ .unknown ∧ cell.slots = vs.toArray := by
  obtain ⟨cell, q1, q2, q3, q4⟩ := EN.scr a c vs hσ
  exact ⟨cell, by rw [hR.2.2.2.2.1 a (Array.getElem?_eq_some_iff.mp q1).1]; exact q1, State.isArrayOf_alike G.warm.alike q2, q3, q4⟩
theorem s_slen (EN : EX x E) (G : Gd x cc own y nL ret Q) (d : decode cc pc = .ok (.arraylength, 1)) (kk : Snd x (pc + 1) K) : Snd x pc (o_slen E K) := by
  intro ls st h hk H locs lsC hR hL hl
  unfold o_slen at hk
  split at hk
  · next a r =>
    split at hk
    · next c vs hσ =>
      obtain ⟨cell, q1, q2, q3, q4⟩ := scr_cell EN G hR hσ
      exact W.alen G.b.1 G.b.2 q1 q2 (by rw [q4]; simp) rfl rfl d (kk _ _ _ hk H locs lsC hR hL hl)
    · exact hk.elim
  · exact hk.elim
theorem s_sld (EN : EX x E) (G : Gd x cc own y nL ret Q) (d : decode cc pc = .ok (.iaload, 1)) (kk : Snd x (pc + 1) K) : Snd x pc (o_sld E K) := by
  intro ls st h hk H locs lsC hR hL hl
  unfold o_sld at hk
  split at hk
  · next i a r =>
    split at hk
    · next c vs hσ =>
      obtain ⟨hi, hk⟩ := hk
      split at hk
      · next v hv =>
        obtain ⟨cell, q1, q2, q3, q4⟩ := scr_cell EN G hR hσ
        refine W.iald G.b.1 G.b.2 q1 q2 q3 ?_ ?_ rfl rfl d (kk _ _ _ hk H locs lsC hR hL hl)
        · rintro (q | q)
          · exact hi q
          · have := (List.getElem?_eq_some_iff.mp hv).1
            rw [q4] at q
            simp at q
            omega
        · rw [q4]
          simpa using hv
      · exact hk.elim
    · exact hk.elim
  · exact hk.elim
end SPEC
/-! a private method of a class above the receiver's -/
section PRIV
variable {x : CX} {cc : ByteArray} {own : String} {y : MethodName} {nL : Nat} {ret : Option FieldType} {Q : Rs → HS → Prop} {pc : Nat} {K : Ct} {X : Xt}
variable {z : MethodName} {bytes : ByteArray} {maxL : Nat} {ret' : Option FieldType} {F L n index : Nat} {wp : Wp}
theorem s_callVP {cs : List Nat} {E : Nat → Value} (EN : EX x E) (hcs : ∀ c ∈ cs, c < 23) (G : Gd x cc own y nL ret Q) (hM : rMet x.1.2.1 (yD x) x.2.2.2.1.2.1 z (ws_ z bytes maxL ret') F L wp) (h1 : Cond.methodLink own index z ∈ lw_all) (hp : Cond.privateMethod z ∈ lw_tbl) (h2 : Cond.instanceMethod z ∈ lw_all) (hsm : Cond.sameMethod z.cls z.cls z.name z.desc ∈ lw_all) (h3 : Cond.initialized z.cls ∈ lw_all) (h4 : Cond.code z bytes maxL ret' ∈ lw_all)
    (hn : nm_ok z n) (hr : rmOk x F L maxL) (d : decode cc pc = .ok (.invokevirtual index, 3)) (kk : Snd x (pc + 3) K) (hX : SndX x pc X) : Snd x pc (o_callV cs (n + 1) wp X K) := by
  intro ls st h hk H locs lsC hR hL hl
  unfold o_callV at hk
  split at hk
  · next b as r hs =>
    split at hk
    · next c vs hσ =>
      obtain ⟨hin, hA, hc, hwp⟩ := hk
      obtain ⟨rfl, hlen⟩ := splitN_ref hs
      obtain ⟨cell, r2, ks, f1, f2, f3, f4, f5, f6⟩ := rcv_of G.kn hR hcs hσ hin
      refine aW_le G.gr hR fun e1 e2 => call_end (h := h) (r := r) (a := (Value.ref b :: as).toArray) G hL hl kk hX fun T hT X0 => ?_
      have hK := r_back (R := x.1.2.2.2) (p := x.1.1) (e := x.1.2.2.1) (below := x.2.1.2.2.2) (s := yS x) (sargs := yA x) (len := 3) (W9 := 8) hM (okA_ref hA) hwp hr.1 hr.2 G.hts h4 h3
      obtain ⟨mk, methM, hnamed, hmethM, hstM, habM⟩ := Cond.instanceMethod_spec (G.hts _ h2)
      obtain ⟨methM', cM, hmethM', -, -, -, -, -, -, hsigM⟩ := Cond.code_spec hnamed (G.hts _ h4)
      cases hmethM.symm.trans hmethM'
      obtain ⟨cn, ck, r1, hcn, hck, hni, hf, hn1⟩ := Cond.sameMethod_found (G.hts _ hsm)
      cases hnamed.symm.trans hn1
      have hcls : cn = mk.cls := Option.some.inj (hcn.symm.trans (findClass_of_methodNamed hnamed))
      subst hcls
      have hpriv : (Cond.privateMethod z).before #[] x.2.2.2.1.2.1 = true := EN.nw hp rfl
      have hpr : methM.isPrivate = true := by
        have hal := G.warm.alike
        obtain ⟨m0, hm0, hp0⟩ : ∃ m0, x.2.2.2.1.2.1.vm.method? mk = some m0 ∧ x.2.2.2.1.2.1.methodNamed? z = some mk := by
          have hh := State.methodNamed?_setVm (s := x.2.2.2.1.2.1) hal z
          have h9 : (x.2.2.2.1.2.1.setVm (yS x).vm).methodNamed? z = some mk := hnamed
          rw [hh] at h9
          refine ⟨methM, ?_, h9⟩
          rw [← hal.method?]; exact hmethM
        have := Cond.privateMethod_at hpriv mk m0 hp0 hm0
        rw [← hal.method?, hmethM] at hm0
        cases hm0
        exact this
      have hselP : selectMethod x.1.2.2.1.platform (yS x).vm cell.cls mk = .method mk := selectMethod_private hmethM hpr
      obtain ⟨vm₁, X₁, hstep₁⟩ := X0.invokevirtual G.b.1 G.ow (G.hts _ h1) hnamed hmethM hstM hck hni ⟨hn.1, hn.2.1⟩ (a := b) (cell := cell) (by rw [hT]; exact f3)
        (fun z h => by rw [h] at f4; cases f4) hselP hmethM habM hck hni (g := F0 (yM x) pc lsC (as.reverse ++ .ref b :: r)) rfl (argsL := as) (rest := r) (nm_len hn (by omega) _ hsigM) rfl (by rw [G.b.2]; exact d)
      rcases hK (yM x) x.2.2.1.1 x.2.2.1.2.1 ⟨T.setVm vm₁, locs, _, _⟩ { F0 (yM x) pc lsC (as.reverse ++ .ref b :: r) with stack := r } (.invokevirtual index) mk (Value.ref b :: as).toArray X₁ rfl (by rw [G.ml]; exact hl.1) (by rw [G.b.2]; exact d) (r_rm hc rfl) (X₁.named hnamed) (call_pre G e1 e2 hR hT X₁.warmed) with ⟨v, B, X', hpost, hsteps⟩ | ⟨q, B, X', hpost, hsteps⟩
      · exact Or.inl ⟨v, vm₁, B, X₁.warmed, X', hpost, fun target h => hstep₁ _ fun acts => by rw [doInvoke_state]; exact hsteps.trans h⟩
      · exact Or.inr ⟨q, vm₁, B, X₁.warmed, X', hpost, hstep₁ _ fun acts => by rw [doInvoke_state]; exact hsteps⟩
    · exact hk.elim
  · exact hk.elim
end PRIV
