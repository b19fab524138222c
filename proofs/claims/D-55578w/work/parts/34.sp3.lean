/-! THE SPECIAL ROWS (3): the lambda is called -/
set_option maxRecDepth 100000
/-- the class file that the library writes for the lambda -/
def DL : ClassFile := (sigL.file "ChantRules").getD { minorVersion := 0, majorVersion := 0, constantPool := #[], accessFlags := 0, thisClass := 0, superClass := 0, interfaces := #[], fields := #[], methods := #[], attributes := #[] }
def fwdL : Method := ((layoutMethods DL).bind (·[1]?)).getD default
def layL : Array Field × Array FieldType × Array FieldType := (layoutFields DL 0).getD default
def codL : ByteArray := ⟨#[0x2a, 0xb4, 0x00, 0x0f, 0x2b, 0xb8, 0x00, 0x17, 0xac]⟩
theorem dcodL_0 : decode codL 0 = .ok (.aload_n 0, 1) := by decide +kernel
theorem dcodL_1 : decode codL 1 = .ok (.getfield 15, 3) := by decide +kernel
theorem dcodL_4 : decode codL 4 = .ok (.aload_n 1, 1) := by decide +kernel
theorem dcodL_5 : decode codL 5 = .ok (.invokestatic 23, 3) := by decide +kernel
theorem dcodL_8 : decode codL 8 = .ok (.ireturn, 1) := by decide +kernel
theorem fileL : sigL.file "ChantRules" = some DL := by
  have h : (sigL.file "ChantRules").isSome = true := by decide +kernel
  obtain ⟨x, hx⟩ := Option.isSome_iff_exists.mp h
  simp [DL, hx]
theorem secondL : ∀ ms, layoutMethods DL = some ms → ms[1]? = some fwdL := by
  intro ms hms
  have h : ((layoutMethods DL).bind (·[1]?)).isSome = true := by decide +kernel
  obtain ⟨x, hx⟩ := Option.isSome_iff_exists.mp h
  have hf : fwdL = x := by simp [fwdL, hx]
  rw [hms] at hx
  rw [hf]
  exact hx
theorem layL_is : layoutFields DL 0 = some layL := by
  have h : (layoutFields DL 0).isSome = true := by decide +kernel
  obtain ⟨x, hx⟩ := Option.isSome_iff_exists.mp h
  simp [layL, hx]
theorem codeL : (fwdL.code.map fun c => (c.code.data, c.maxLocals)) = some (codL.data, 2) := by decide +kernel
theorem flagsL : (fwdL.accessFlags, fwdL.name, fwdL.sig.returnType) = (0x0001, "is", some FieldType.boolean) := by decide +kernel
theorem eL23 : DL.constantPool[23]? = some (.methodref 19 22) ∧ DL.constantPool.className? 19 = some "ChantRules" ∧ DL.constantPool.nameAndType? 22 = some ("lambda$new$0", "(ILChantRules$Arc;)Z") := by decide +kernel
theorem eL19 : DL.constantPool[19]? = some (.class_ 18) ∧ DL.constantPool.string? 18 = some "ChantRules" ∧ 19 ≠ DL.thisClass := by decide +kernel
theorem eL15 : DL.constantPool[15]? = some (.fieldref 2 14) ∧ DL.constantPool.nameAndType? 14 = some ("arg$1", "I") := by decide +kernel
theorem fL : layL.1.findIdx? (·.name == "arg$1") = some 0 ∧ (layL.1[0]?).map (fun f => (f.slot, f.isStatic)) = some (0, false) := by decide +kernel
/-- what the tables say of the lambda's class and of its one method -/
theorem made_L {e : Setting} {vm : Vm} {d c : ClassId} {dk : Class} (hd : vm.classes[d]? = some dk) (hname : dk.name = "ChantRules") (hO : ∃ object ok, vm.findClass "java/lang/Object" = some object ∧ vm.classes[object]? = some ok ∧ ok.instanceTypes.size = 0) (h : Lambda.isMade e vm d sigL c = true) :
    ∃ (k tk : Class) (file : ClassFile) (methk : Method) (ck : Code) (toy : ClassId) (t : MethodId) (fd : Field),
      vm.classes[c]? = some k ∧ k.name = "ChantRules$$Lambda" ∧ k.cf = some file ∧ file.constantPool = DL.constantPool ∧
      vm.method? ⟨c, 1⟩ = some methk ∧ methk.code = some ck ∧ ck.code = codL ∧ ck.maxLocals = 2 ∧ methk.locks = false ∧ methk.accessFlags = 0x0001 ∧ methk.sig.returnType = some .boolean ∧ ck.exceptionTable = #[] ∧
      vm.findClass "ChantRules" = some toy ∧ vm.classes[toy]? = some tk ∧ ((methodIn toy "lambda$new$0" "(ILChantRules$Arc;)Z" tk.isInterface none).ask e vm).1 = .ok t ∧
      vm.methodReady c 23 t ∧ vm.classReady c 19 toy ∧ vm.fieldReady c 15 c fd ∧ fd.slot = 0 ∧ fd.isStatic = false := by
  obtain ⟨dk', k, ok, tk, file, cf, object, iface, toy, lay, methods, target, found, hd', hk, hfile, hcf, hobj, -, hok, hlay, hms, ht, htk, hg, -, hrec, -, -, -, -, hpool, hmeth, hfld, -, hres, -⟩ := Lambda.isMade_spec h
  cases hd.symm.trans hd'
  rw [hname, fileL] at hcf
  cases hcf
  obtain ⟨object', ok', o1, o2, o3⟩ := hO
  cases hobj.symm.trans o1
  cases hok.symm.trans o2
  rw [o3, layL_is] at hlay
  cases hlay
  obtain ⟨b, hb, hsame⟩ := hmeth 1 fwdL (secondL methods hms)
  obtain ⟨hn, hdsc, hsig, hfl, x, y, hfc, hbc, hms2, hml2, hcd2, hex2⟩ := Lambda.sameMethod_spec hsame
  have fc := codeL
  have ff := flagsL
  simp only [Prod.mk.injEq] at ff
  rw [hfc] at fc
  simp only [Option.map_some, Option.some.injEq, Prod.mk.injEq] at fc
  obtain ⟨h19, hs19, hne⟩ := eL19
  obtain ⟨f1, f2⟩ := fL
  cases hf0 : layL.1[0]? with
  | none => rw [hf0] at f2; cases f2
  | some fd =>
    rw [hf0] at f2
    simp only [Option.map_some, Option.some.injEq, Prod.mk.injEq] at f2
    refine ⟨k, tk, file, b, y, toy, target, fd, hk, by rw [hrec.1, hname]; rfl, hfile, hpool.2.1, by simp [Vm.method?, hk, hb], hbc, ?_, by rw [hml2]; exact fc.2, ?_, by rw [hfl]; exact ff.1, by rw [hsig]; exact ff.2.2, hex2, ht, htk, hg,
      ⟨k, hk, hres 23 _ (Lambda.resolvedOf_method eL23.1 eL23.2.1 ht htk eL23.2.2 hg)⟩, ⟨k, hk, hres 19 _ (Lambda.resolvedOf_class h19 hne hs19 ht)⟩, ⟨k, 0, k, hk, hres 15 _ (Lambda.resolvedOf_field eL15.1 eL15.2 f1), hk, hfld 0 fd hf0⟩, f2.1, f2.2⟩
    · rw [hcd2]
      exact ByteArray.ext fc.1
    · simp [Method.locks, Method.isSynchronized, hfl, ff.1, hasFlag, Acc.synchronized]
/-- what a call through the interface finds, at the start -/
def lamOk (s0 : State) (cK : ClassId) : Prop := ∃ (d : ClassId) (dk : Class) (r0 : MethodId) (r : Method) (ki : Class), s0.vm.classes[d]? = some dk ∧ dk.name = "ChantRules" ∧ Lambda.isMade { classPath := fun _ => none } s0.vm d sigL cK = true ∧
  s0.methodNamed? ⟨"ChantRules$Test", "is", "(LChantRules$Arc;)Z"⟩ = some r0 ∧ s0.vm.method? r0 = some r ∧ r.isStatic = false ∧ r.sig.parameters.length = 1 ∧ r.name = "is" ∧ r.desc = "(LChantRules$Arc;)Z" ∧ s0.vm.classes[r0.cls]? = some ki ∧ ki.isInterface = true ∧
  s0.vm.assignable cK r0.cls = true ∧ selectMethod {} s0.vm cK r0 = .method ⟨cK, 1⟩ ∧ ((cK :: s0.vm.superclasses cK).any fun k => (declaredIn s0.vm "is" "(LChantRules$Arc;)Z" k).any fun (_, y) => y.isPrivate || y.isStatic) = false
theorem lamOk_of {s0 : State} {cK : ClassId} {one : Option Addr} (hat : s0.lambdaAt? yX0_init 85 52 sigL = some (cK, one)) (hdecl : va_Nw (.declares ⟨"ChantRules$Test", "is", "(LChantRules$Arc;)Z"⟩) s0) (hface : va_Nw (.interfaceMethod "ChantRules$Test" "ChantRules$Test" "is" "(LChantRules$Arc;)Z") s0) : lamOk s0 cK := by
  obtain ⟨m', kS, cfS, i0, p0, lk, hm', hkS, hcfS, hshape, -, hfind, hmade, hcan, hlk⟩ := State.lambdaAt?_spec hat
  obtain ⟨kS', hkS', hnameS⟩ := className_of_methodNamed hm'
  cases hkS.symm.trans hkS'
  obtain ⟨r0, r, hn, hrm, hstR, hsigR⟩ := Cond.declares_spec hdecl
  obtain ⟨cL, kL, r1, hcL, hkL, hiL, hfoundL, hn1⟩ := Cond.interfaceMethod_spec hface
  cases hn.symm.trans hn1
  have hr0cls : r0.cls = cL := Option.some.inj ((findClass_of_methodNamed hn).symm.trans hcL)
  obtain ⟨hnameR, hdescR⟩ := name_of_methodNamed hn hrm
  obtain ⟨-, -, -, -, -, -, -, iface', -, -, -, -, found, -, -, -, -, -, hi', -, -, -, -, -, -, hfound', -, -, -, -, -, -, -, -, -, -, hsel⟩ := Lambda.isMade_spec hmade
  cases hcL.symm.trans hi'
  have e1 : sigL.sam.toString = "(LChantRules$Arc;)Z" := by decide +kernel
  have hfr : found = r0 := by
    have h1 : s0.methodFound? "ChantRules$Test" "is" "(LChantRules$Arc;)Z" = some r0 := hfoundL
    have hcL' : s0.vm.findClass "ChantRules$Test" = some cL := hcL
    simp only [State.methodFound?, hcL', hkL, hiL, Option.bind_eq_bind, Option.bind_some] at h1
    have h2 : ((methodIn cL "is" "(LChantRules$Arc;)Z" true none).ask { classPath := fun _ => none } s0.vm).1 = .ok found := by rw [e1] at hfound'; exact hfound'
    rw [h2] at h1
    exact Option.some.inj h1
  subst hfr
  obtain ⟨i2, hi2, hasg, hway⟩ := State.lambdaCallable_spec hcan
  cases hcL.symm.trans hi2
  rw [e1] at hway
  have hsig : r.sig.parameters.length = 1 := by
    have h1 : (parseMethodDescriptor "(LChantRules$Arc;)Z").map (fun d => d.parameters.length) = some 1 := by decide +kernel
    have h2 : parseMethodDescriptor "(LChantRules$Arc;)Z" = some r.sig := hsigR
    rw [h2] at h1
    exact Option.some.inj h1
  exact ⟨m'.cls, kS, found, r, kL, hkS, hnameS, hmade, hn, hrm, hstR, hsig, hnameR, hdescR, by rw [hr0cls]; exact hkL, hiL, by rw [hr0cls]; exact hasg, hsel, hway⟩
theorem lamOk.warm {s0 U : State} {cK : ClassId} (hW : s0.WarmedH U.vm) (h : lamOk s0 cK) : lamOk U cK := by
  obtain ⟨d, dk, r0, r, ki, h1, h2, h3, h4, h5, h6, h7, h8, h9, h10, h11, h12, h13, h14⟩ := h
  have hA := hW.alike
  obtain ⟨dk', g1, g2⟩ := hA.2.2 _ _ h1
  obtain ⟨ki', g3, g4⟩ := hA.2.2 _ _ h10
  have h9' : (s0.setVm U.vm).methodNamed? ⟨"ChantRules$Test", "is", "(LChantRules$Arc;)Z"⟩ = some r0 := by rw [State.methodNamed?_setVm hA]; exact h4
  exact ⟨d, dk', r0, r, ki', g1, by rw [g2]; exact h2, Lambda.isMade_warmer hW h3, h9', by rw [hA.method?]; exact h5, h6, h7, h8, h9, g3, by rw [g4]; exact h11, by rw [hA.assignable]; exact h12, by rw [hA.selectMethod]; exact h13, by simp only [hA.superclasses, hA.declaredIn]; exact h14⟩
section LC
variable {l : Launch} {R : Room} {p : Program} {e : Env} {below : List Frame} {s : State} {sargs : Array Value} {m : MethodId} {meth : Method} {c : Code} {D : DE} {s0 : State} {h : HS} {Q : Rs → HS → Prop} {wp : Wp} {cK : ClassId}
set_option maxHeartbeats 4000000 in
/-- the method of the lambda's object, entered and left -/
theorem lam_in {T : State} {locs : List Loc} {cells slots : Nat} (X : Stand p l e R s m sargs below meth c T locs cells slots) (hexec : p.tables.exec = Jvm.exec) (hts : ∀ w ∈ lw_all, w.before sargs s = true) (hK0 : lamOk s cK)
    (hM : rMet l D s0 yX0_lambda_new_0 (ws_ yX0_lambda_new_0 cX0_lambda_new_0 2 (some .boolean)) 3 84 wp) (hty : ∀ (av : List Value) (h : HS) (Q : Rs → HS → Prop), wp av h Q → wp av h (fun rs h' => Q rs h' ∧ tyB rs)) {k : Int32} {t a : Addr} (hwp : wp [.int k, .ref a] h Q)
    (hR : RelH D s0 h T.heap) (hwm : s0.WarmedH T.vm) {cell : Cell} (hcell : T.heap[t]? = some cell) (hknown : cell.vm ≠ .unknown) (hsl : cell.slots = [.int k].toArray)
    (hc1 : cells + h.2.2.1 ≤ R.cells) (hc2 : slots + h.2.2.2 ≤ R.slots) (hf : 5 ≤ R.frames) (hlo : 126 ≤ R.locals)
    {g : JFrame} (hg : g.method = m) (hsize : g.locals.size = c.maxLocals) {ig : Instr} (hdg : decode c.code g.pc = .ok (ig, 5)) (hW : 2 * g.monitorRoom + (g.stack.map fun v => v.category).sum ≤ 8) :
    (∃ (v : Option Value) (B : Pt), Stand p l e R s m sargs below meth c B.U B.locs B.cells B.slots ∧ rPost D s0 Q ⟨T, locs, cells, slots⟩ #[] v B ∧
      ∀ acts, Steps p.tables e below (doInvoke e (T.setTop g) acts ⟨cK, 1⟩ #[.ref t, .ref a]).1 (B.U.setTop { g with pc := g.pc + 5, stack := v.toList ++ g.stack })) ∨
    (∃ (q : Addr) (B : Pt), Stand p l e R s m sargs below meth c B.U B.locs B.cells B.slots ∧ rPostX D s0 Q ⟨T, locs, cells, slots⟩ #[] q B ∧
      ∀ acts, Steps p.tables e below (doInvoke e (T.setTop g) acts ⟨cK, 1⟩ #[.ref t, .ref a]).1 ((B.U.setTop g).pushFrame (.throwing q))) := by
  obtain ⟨d, dk, r0, r, ki, g1, g2, g3, -⟩ := hK0.warm X.warmed
  have hpay := pay_in hts lw_self
  obtain ⟨cO, kO, hfO, hkO, -, -, -, hsz⟩ := Cond.instantiable_spec (hpay _ q2399 #[] T X.warmed)
  obtain ⟨kK, tk, file, methk, ck, toy, tm, fd, hkK, hkn, hfile, hpool, hmk, hck, hbytes, hml, hlk, hfl, hretk, hexc, htoy, htk, hlook, hready, hclsR, hfdR, hfd0, hfdS⟩ := made_L g1 g2 ⟨cO, kO, hfO, hkO, hsz⟩ g3
  have hcodeT := hpay _ q282 #[] T X.warmed
  obtain ⟨mT, hnT⟩ := Cond.code_named hcodeT
  obtain ⟨methT, cT, hmethT, hcT, hbytesT, hlocT, hretT, hlocksT, -, hsigT⟩ := Cond.code_spec hnT hcodeT
  have hstaticT : methT.isStatic = true := Cond.static_spec hnT hmethT (hpay _ q281 #[] T X.warmed)
  obtain ⟨kT, hkT, hnameT⟩ := className_of_methodNamed hnT
  have hfT : T.vm.findClass "ChantRules" = some mT.cls := findClass_of_methodNamed hnT
  have hinitK : kT.init = .initialized := Cond.initialized_spec hfT hkT (hpay _ q76 #[] T X.warmed)
  cases htoy.symm.trans hfT
  cases htk.symm.trans hkT
  have ht₁ : tm = mT := by
    have h1 : T.methodFound? "ChantRules" "lambda$new$0" "(ILChantRules$Arc;)Z" = some mT := State.methodFound?_of_named hnT (by decide)
    simp only [State.methodFound?, hfT, htk, Option.bind_eq_bind, Option.bind_some] at h1
    rw [hlook] at h1
    exact Option.some.inj h1
  subst ht₁
  have hparT : methT.sig.parameters.length = 2 := by
    have h1 : (parseMethodDescriptor "(ILChantRules$Arc;)Z").map (fun d => d.parameters.length) = some 2 := by decide +kernel
    have h2 : parseMethodDescriptor "(ILChantRules$Arc;)Z" = some methT.sig := hsigT
    rw [h2] at h1
    exact Option.some.inj h1
  have hnm : tk.name ≠ "java/lang/invoke/MethodHandle" ∧ tk.name ≠ "java/lang/invoke/VarHandle" := by
    have : tk.name = "ChantRules" := hnameT
    rw [this]; decide
  have hsp : ∀ y : Method, signaturePolymorphic tk y = false := fun y => by simp [signaturePolymorphic, hnm.1, hnm.2]
  obtain ⟨bb, hmem⟩ := memberRef_ask' (e := e) (vm := T.vm) (d := cK) (index := 23) hkK hfile (Or.inl (by rw [hpool]; exact eL23.1)) (by rw [hpool]; exact eL23.2.2)
  have hpk : T.plainMethod ⟨cK, 1⟩ := State.plainMethod.of_name (fun k' hk' => by cases hkK.symm.trans hk'; rw [hkn]; decide)
  obtain ⟨Y₀, hin⟩ := X.into hg hsize hdg #[.ref t, .ref a] (R' := { frames := 4, locals := 105, cells := h.2.2.1, slots := h.2.2.2 }) hmk hck hlk hpk (by show 4 + 1 ≤ _; omega) (by rw [hml]; show _ + _ + (2 + 11) + 105 ≤ _; omega) hc1 hc2
  have hloc : entryFrame ⟨cK, 1⟩ #[.ref t, .ref a] ck.maxLocals = { method := ⟨cK, 1⟩, pc := 0, locals := #[.val (.ref t), .val (.ref a)], stack := [], locked := none } := by rw [hml]; rfl
  rw [hloc] at Y₀ hin
  generalize hU : (T.setTop g).pushFrame (.java { method := ⟨cK, 1⟩, pc := 0, locals := #[.val (.ref t), .val (.ref a)], stack := [], locked := none }) = U at Y₀ hin
  have hvm : U.vm = T.vm := by rw [← hU]; rfl
  have hheap : U.heap = T.heap := by rw [← hU]; rfl
  have hs : U.topJava?.isSome := Y₀.here.top
  have hts' : ∀ w ∈ lw_all, w.before #[.ref t, .ref a] (T.calling g ⟨cK, 1⟩ #[.ref t, .ref a]) = true := fun w hw => hpay w hw _ (T.calling g ⟨cK, 1⟩ #[.ref t, .ref a]) X.warmed
  have hK := r_back (R := { frames := 4, locals := 105, cells := h.2.2.1, slots := h.2.2.2 }) (p := p) (e := e) (below := .java g :: below) (s := T.calling g ⟨cK, 1⟩ #[.ref t, .ref a]) (sargs := #[.ref t, .ref a]) (len := 3) (W9 := 8) hM rfl (hty _ _ _ hwp) (by show 3 + 1 ≤ 4; omega) (by show 8 + (2 + 11) + 84 ≤ 105; omega) hts' q282 q76
  have hread : U.heap[t]? = some cell := by rw [hheap]; exact hcell
  have hval : cell.slots[fd.slot]? = some (.int k) := by rw [hfd0, hsl]; rfl
  have step : ∀ {tgt : State} (acts : List Action), Steps p.tables e (.java g :: below) (doInvoke e (U.setTop { method := ⟨cK, 1⟩, pc := 5, locals := #[.val (.ref t), .val (.ref a)], stack := [], locked := none }) [] tm #[.int k, .ref a]).1 tgt →
      Steps p.tables e below (doInvoke e (T.setTop g) acts ⟨cK, 1⟩ #[.ref t, .ref a]).1 tgt := by
    intro tgt acts hst
    rw [hin acts]
    refine steps_weak (mid := [.java g]) ?_
    jvm_step Y₀.here [hexec, hbytes, dcodL_0, Value.isRef]
    jvm_step Y₀.here [hexec, hbytes, dcodL_1, getfield.wp_ready (e := e) (s := U) (c := cK) (field := fd) (a := t) (rest := []) (cell := cell) (v := .int k)
      (f := { method := ⟨cK, 1⟩, pc := 1, locals := #[.val (.ref t), .val (.ref a)], stack := [.ref t], locked := none }) hs (by rw [hvm]; exact hfdR) hfdS rfl hread hknown hval]
    jvm_step Y₀.here [hexec, hbytes, dcodL_4, Value.isRef]
    jvm_step Y₀.here [hexec, hbytes, dcodL_5, invokestatic.wp_ready (e := e) (s := U) (m := tm) (k := tk) (meth := methT) (args := [.int k, .ref a]) (rest := [])
      (f := { method := ⟨cK, 1⟩, pc := 5, locals := #[.val (.ref t), .val (.ref a)], stack := [.ref a, .int k], locked := none }) hs ⟨19, _, _, bb, tm.cls, tk, by rw [hvm]; exact hmem, by rw [hvm]; exact hclsR, by rw [hvm]; exact htk, by simp [hsp]⟩ (by rw [hvm]; exact hready) (by rw [hvm]; exact htk) (by rw [hvm]; exact hmethT) (hsp _) hstaticT hinitK (by rw [hparT]; rfl) rfl]
    intro acts'
    rw [doInvoke_state]
    exact hst
  have hb1 : ck.code = codL := hbytes
  rcases hK ⟨cK, 1⟩ methk ck ⟨U, [], 0, 0⟩ { method := ⟨cK, 1⟩, pc := 5, locals := #[.val (.ref t), .val (.ref a)], stack := [], locked := none } (.invokestatic 23) tm [.int k, .ref a].toArray Y₀ rfl (by rw [hml]; rfl) (by rw [hb1]; exact dcodL_5) (by show 2 * 0 + 0 ≤ 8; omega)
      (by have hq := hnT; simp only [State.methodNamed?] at hq ⊢; rw [hvm]; exact hq) ⟨by show 0 + _ ≤ _; simp, by show 0 + _ ≤ _; simp, rfl, by show RelH D s0 h U.heap; rw [hheap]; exact hR, by show s0.WarmedH U.vm; rw [hvm]; exact hwm⟩ with
    ⟨v, B, X', ⟨h', L9, hR', ⟨hq, htyv⟩, e1, hL9⟩, st9⟩ | ⟨q, B, X', ⟨h', L9, hR', ⟨hob, hq, -⟩, e1, hL9⟩, st9⟩
  · obtain ⟨w, rfl, hn⟩ : ∃ w : Int32, v = some (.int w) ∧ narrow .boolean (.int w) = .int w := by
      match v, htyv with
      | some (.int w), h => exact ⟨w, rfl, h⟩
    obtain ⟨fs, hret, hrun, hended, hW2, hframe⟩ := X'.leave (v := some (.int w)) (hlocks := hlk) (fun h => by rw [hretk] at h; cases h)
    obtain ⟨T', X'', hW', hB', ht⟩ := X.outOf hg hdg hended hW2 hframe
    have hT' : T'.heap = B.U.heap := by
      have : (B.U.setFrames fs).heap = (T'.setTop { g with pc := g.pc + 5, stack := (some (Value.int w)).toList ++ g.stack }).heap := by rw [ht]
      exact this.symm
    refine Or.inl ⟨some (.int w), ⟨T', locs ++ B.locs, cells + B.cells, slots + B.slots⟩, X'', ⟨h', B.locs, by show RelH D s0 h' T'.heap; rw [hT']; exact hR', hq, rfl, fun z hz => hL9 z (by rw [e1] at hz; exact (List.mem_append.mp hz).elim (fun q => (List.not_mem_nil q).elim) id)⟩, fun acts => ?_⟩
    show Steps p.tables e below _ (T'.setTop { g with pc := g.pc + 5, stack := (some (Value.int w)).toList ++ g.stack })
    rw [← ht]
    refine step acts (st9.trans ?_)
    show Steps p.tables e (.java g :: below) (B.U.setTop { method := ⟨cK, 1⟩, pc := 8, locals := #[.val (.ref t), .val (.ref a)], stack := [.int w], locked := none }) _
    jvm_step X'.here [X'.here.top, hexec, hbytes, dcodL_8, X'.method', hretk, hn]
    intro acts''
    rw [hret { method := ⟨cK, 1⟩, pc := 8, locals := #[.val (.ref t), .val (.ref a)], stack := [], locked := none } acts'' rfl rfl rfl]
    exact Steps.refl _
  · obtain ⟨st1, hrun, hend, hW2, hsm⟩ := X'.leaveThrown q (g := { method := ⟨cK, 1⟩, pc := 5, locals := #[.val (.ref t), .val (.ref a)], stack := [], locked := none }) rfl rfl rfl (fun z hz => by rw [hexc] at hz; cases hz) hlk
    obtain ⟨T', X'', hW', hB', ht⟩ := X.outOfThrown hg hend hW2 hsm
    have hT' : T'.heap = B.U.heap := by
      have : _ = (((T'.setTop g).pushFrame (.throwing q)) : State).heap := congrArg State.heap ht
      exact this.symm
    refine Or.inr ⟨q, ⟨T', locs ++ B.locs, cells + B.cells, slots + B.slots⟩, X'', ⟨h', B.locs, by show RelH D s0 h' T'.heap; rw [hT']; exact hR', ⟨hob, hq⟩, rfl, fun z hz => hL9 z (by rw [e1] at hz; exact (List.mem_append.mp hz).elim (fun q => (List.not_mem_nil q).elim) id)⟩, fun acts => ?_⟩
    show Steps p.tables e below _ ((T'.setTop g).pushFrame (.throwing q))
    rw [← ht]
    exact step acts (st9.trans st1)
end LC
set_option maxHeartbeats 4000000 in
theorem sp_call {l : Launch} {D : DE} {s0 : State} (hlam : lamOk s0 (D.1 99)) : SPcall l D s0 := by
  intro x cc own y nL ret Q K X pc index wp hx G hr hty hM hl9 d kk hX ls st h hk H locs lsC hR hL hl
  obtain ⟨rfl, hx2, hx3⟩ := hx
  subst hx2
  subst hx3
  unfold o_callLam at hk
  split at hk
  · next as r hs =>
    obtain ⟨hA, hcat, hk⟩ := hk
    unfold wLam at hk
    split at hk
    · next t a =>
      split at hk
      · next c k ca vs ht ha =>
        obtain ⟨hc, hin, hwp⟩ := hk
        subst hc
        obtain ⟨rfl, hlen⟩ := splitN_spec _ _ _ _ hs
        obtain ⟨cell, q1, q2, q3, q4, q5, q6, q7⟩ := hR.2.2.2.2.2 t _ ht
        have q2 : cell.cls = (yD x).1 99 := cls_lt q2 (show (99 : Nat) < 200 by decide)
        have e7 : cell.slots = [.int k].toArray := q7 (by show 99 ≤ kd 99; decide)
        have hK : lamOk (yS x) ((yD x).1 99) := by
          exact hlam.warm G.warm
        obtain ⟨d9, dk, r0, r9, ki, g1, g2, g3, g4, g5, g6, g7, g8, g9, g10, g11, g12, g13, g14⟩ := id hK
        obtain ⟨kK, hkK, -⟩ : ∃ kK, (yS x).vm.classes[(yD x).1 99]? = some kK ∧ True := by
          obtain ⟨_, k9, _, _, _, _, _, _, _, _, _, _, _, _, z, _⟩ := Lambda.isMade_spec g3
          exact ⟨k9, z, trivial⟩
        have hr2 : 8 + (5 + 11) + 150 ≤ x.1.2.2.2.locals := hr.2
        have hr1 : 5 + 1 ≤ x.1.2.2.2.frames := hr.1
        refine aW_le G.gr hR fun e1 e2 => call_end (len := 5) (h := h) (r := r) (a := #[]) G hL hl kk hX fun T hT X0 => ?_
        have hpay := pay_in G.hts lw_self
        obtain ⟨cO, kO, hfO, hkO, -, -, -, hsz⟩ := Cond.instantiable_spec (G.hts _ q2399)
        obtain ⟨kK2, tk, file, methk, ck, toy, tm, fd, hkK2, hkn, hfile, hpool, hmk, hck, hbytes, hml, hlk, hfl, hretk, -⟩ := made_L g1 g2 ⟨cO, kO, hfO, hkO, hsz⟩ g3
        obtain ⟨vm₁, X₁, hstep₁⟩ := X0.invokeinterface G.b.1 G.ow (G.hts _ hl9) g4 g5 g6 g10 g11 (by decide) (a := t) (cell := cell) (kcell := kK) (by rw [hT]; exact q1) (fun z h => by rw [h] at q4; cases q4) (by rw [q2]; exact hkK) (by rw [q2]; exact g12)
          (m' := ⟨(yD x).1 99, 1⟩) (meth' := methk) (by rw [Launch.admits_selectMethod X0.admits, q2]; exact g13) hmk (by rw [q2, g8, g9]; exact g14) (by rw [hfl]; decide) (by simp [Method.isAbstract, hfl, hasFlag, Acc.abstract])
          (g := F0 (yM x) pc lsC ([.ref t, .ref a].reverse ++ r)) rfl (argsL := [.ref a]) (rest := r) (by rw [g7]; rfl) rfl (by rw [G.b.2]; exact d)
        have hW₁ := X₁.warmed
        rcases lam_in (D := yD x) (s0 := x.2.2.2.1.2.1) (h := h) (Q := callPost X K ls r) (k := k) (t := t) (a := a) X₁ G.b.1 G.hts hK hM hty hwp (by show RelH _ _ _ T.heap; rw [hT]; exact hR) (G.warm.trans hW₁) (cell := cell) (by show T.heap[t]? = _; rw [hT]; exact q1) q3 e7
            (by have := G.gr.2.1; omega) (by have := G.gr.2.2; omega) (by omega) (by omega) (g := { F0 (yM x) pc lsC ([.ref t, .ref a].reverse ++ r) with stack := r }) rfl (by rw [G.ml]; exact hl.1) (by rw [G.b.2]; exact d) (r_rm hcat rfl) with ⟨v, B, X', hpost, hsteps⟩ | ⟨q, B, X', hpost, hsteps⟩
        · exact Or.inl ⟨v, vm₁, B, hW₁, X', hpost, fun target h => hstep₁ _ fun acts => (hsteps acts).trans h⟩
        · exact Or.inr ⟨q, vm₁, B, hW₁, X', hpost, hstep₁ _ fun acts => hsteps acts⟩
      · exact hk.elim
    · exact hk.elim
  · exact hk.elim
