/-! THE SPECIAL ROWS (4): getCause, which is synchronized -/
set_option maxRecDepth 100000
abbrev codG : ByteArray := prog_38_method_8_code
theorem dG_0 : decode codG 0 = .ok (.aload_n 0, 1) := by decide +kernel
theorem dG_1 : decode codG 1 = .ok (.getfield 7, 3) := by decide +kernel
theorem dG_4 : decode codG 4 = .ok (.aload_n 0, 1) := by decide +kernel
theorem dG_5 : decode codG 5 = .ok (.if_acmp .ne 7, 3) := by decide +kernel
theorem dG_8 : decode codG 8 = .ok (.aconst_null, 1) := by decide +kernel
theorem dG_9 : decode codG 9 = .ok (.goto 7, 3) := by decide +kernel
theorem dG_12 : decode codG 12 = .ok (.aload_n 0, 1) := by decide +kernel
theorem dG_13 : decode codG 13 = .ok (.getfield 7, 3) := by decide +kernel
theorem dG_16 : decode codG 16 = .ok (.areturn, 1) := by decide +kernel
section IS
variable {p : Program} {l : Launch} {e : Env} {R : Room} {s : State} {m : MethodId} {args : Array Value} {below : List Frame} {meth : Method} {c : Code} {T : State} {locs : List Loc} {cells slots : Nat}
/-- a synchronized method is entered: the walk of its body stands over the start with the monitor entered -/
theorem into_sync (X : Stand p l e R s m args below meth c T locs cells slots) {g : JFrame} (hg : g.method = m) (hsize : g.locals.size = c.maxLocals) {ig : Instr} {len : Nat} (hdg : decode c.code g.pc = .ok (ig, len))
    {mk : MethodId} {methk : Method} {ck : Code} (a : Array Value) {r : Addr} {cell : Cell} {R' : Room} (hmk : T.vm.method? mk = some methk) (hck : methk.code = some ck) (hlk : methk.locks = true) (hst : methk.isStatic = false) (ha : a[0]? = some (.ref r)) (hcell : T.heap[r]? = some cell) (hent : cell.enterable T.cur) (hpk : T.plainMethod mk)
    (hframes : R'.frames + 1 ≤ R.frames) (hlocals : 2 * g.monitorRoom + (g.stack.map fun v => v.category).sum + (ck.maxLocals + 2 + 11) + R'.locals ≤ R.locals) (hcells : cells + R'.cells ≤ R.cells) (hslots : slots + R'.slots ≤ R.slots) :
    Stand p l e R' ((T.calling g mk a).setCell r (cell.withEntry T.cur)) mk a (.java g :: below) methk ck (((T.setCell r (cell.withEntry T.cur)).setTop g).pushFrame (.java (entryFrameSync mk a ck.maxLocals r))) [] 0 0 ∧
      ∀ acts, (doInvoke e (T.setTop g) acts mk a).1 = (((T.setCell r (cell.withEntry T.cur)).setTop g).pushFrame (.java (entryFrameSync mk a ck.maxLocals r))).setTop (entryFrameSync mk a ck.maxLocals r) := by
  subst hg
  have htop := X.here.top
  have htop1 : (T.setCell r (cell.withEntry T.cur)).topJava?.isSome := htop
  have hfc : ((T.calling g mk a).setCell r (cell.withEntry T.cur)).frames = .invoking mk a :: .java g :: below := by
    show (T.calling g mk a).frames = _
    rw [State.frames_calling htop, X.tail]
  have hfe : (((T.setCell r (cell.withEntry T.cur)).setTop g).pushFrame (.java (entryFrameSync mk a ck.maxLocals r))).frames = .java (entryFrameSync mk a ck.maxLocals r) :: .java g :: below := by
    rw [frames_entered htop1]
    show _ :: _ :: T.frames.tail = _
    rw [X.tail]
  obtain ⟨t, ht, -⟩ := State.frames_cons hfc
  have hcur : ((T.calling g mk a).setCell r (cell.withEntry T.cur)).cur < ((T.calling g mk a).setCell r (cell.withEntry T.cur)).threads.size := State.cur_lt_of_frames hfc
  have hstt : ((T.setCell r (cell.withEntry T.cur)).setTop g).pushFrame (.java (entryFrameSync mk a ck.maxLocals r)) = ((T.calling g mk a).setCell r (cell.withEntry T.cur)).setFrames (.java (entryFrameSync mk a ck.maxLocals r) :: .java g :: below) := by
    have e1 : ((T.setCell r (cell.withEntry T.cur)).calling g mk a) = (T.calling g mk a).setCell r (cell.withEntry T.cur) := rfl
    rw [← e1, State.calling_eq htop1, State.setFrames_setFrames]
    obtain ⟨g₀, hg₀⟩ := X.frames_eq
    have hg₁ : (T.setCell r (cell.withEntry T.cur)).frames = .java g₀ :: below := hg₀
    rw [State.pushFrame, State.frames_setTop _ hg₁, State.setTop_of_frames _ hg₁, State.setFrames_setFrames]
  have hcode : ((T.calling g mk a).setCell r (cell.withEntry T.cur)).code? g.method = some c := by
    have := X.here.code
    rw [State.code?_eq] at this ⊢
    simpa [State.calling, State.pushFrame, State.setFrames, State.setCell] using this
  have hAt : At (((T.setCell r (cell.withEntry T.cur)).setTop g).pushFrame (.java (entryFrameSync mk a ck.maxLocals r))) mk ck (.java g :: below) := by
    have h := At.enter_sync (g := g) X.here a r (cell.withEntry T.cur) hmk hck hpk
    exact ⟨h.top, ⟨[], by rw [hfe]; rfl⟩, h.running, h.runnable, h.alone, h.code, h.plain⟩
  have hcellC : (T.calling g mk a).heap[r]? = some cell := hcell
  refine ⟨⟨X.admits, X.cas, X.clock, hfc, by rw [State.hasRoom_setCell (x := cell.withEntry T.cur) hcellC rfl]; exact X.room_calling hsize hmk hck hframes (by omega) hcells hslots, by simp [State.hears, hcode, hdg, Except.toOption], hmk, hck, hAt, by rw [hfe]; rfl,
    State.WarmedH.refl ((T.calling g mk a).setCell r (cell.withEntry T.cur)), by rw [hstt, State.stackLimits_setFrames], by rw [hstt, State.stackBytes_setFrames], ?_⟩, fun acts => ?_⟩
  · have h := (State.sameButNew.refl ((T.calling g mk a).setCell r (cell.withEntry T.cur)) ht).setFrames (.java (entryFrameSync mk a ck.maxLocals r) :: .java g :: below) hcur
    rw [hstt]
    exact h
  · exact doInvoke_enter_sync htop acts hmk hck hlk hst ha hcell hent.either (X.notFull hsize (vars := ck.maxLocals + 2) (by omega) (by omega))
end IS
section CI
variable {l : Launch} {R : Room} {p : Program} {e : Env} {below : List Frame} {s : State} {sargs : Array Value} {m : MethodId} {meth : Method} {c : Code} {D : DE} {s0 : State} {h : HS} {Q : Rs → HS → Prop}
set_option maxHeartbeats 4000000 in
theorem cause_back (hts : ∀ w ∈ lw_all, w.before sargs s = true) (hKn : Kn D s) (hexec : p.tables.exec = Jvm.exec) {b kd9 : Nat} {v : Value} {vs : List Value} (hb : h.1 b = some (kd9, v :: vs)) (hk9 : kd9 = 9) (hv : v = .ref b ∨ ∃ q, v = va_rf q)
    (hq : Q (.inl (some (if v = .ref b then .null else v))) h) (hf : 1 ≤ R.frames) (hlo : 40 ≤ R.locals) :
    vx_Back l R p e below s sargs ⟨"java/lang/Throwable", "getCause", "()Ljava/lang/Throwable;"⟩ 3 8 (rPre D s0 [.ref b] h R) (rPost D s0 Q) (rPostX D s0 Q) := by
  subst hk9
  intro m meth c A g ig mk a X hg hsize hdg hW hn hp
  have hpay := pay_in hts lw_self
  obtain ⟨U, Ls, c0, n0⟩ := A
  dsimp only [Pt.U, Pt.locs, Pt.cells, Pt.slots] at hn X
  obtain ⟨methk, ck, hmk, hck, hbytes, hml, hret, hlocks, htab, hsig⟩ := Cond.codeSync_spec hn (hpay _ q597 a U X.warmed)
  obtain ⟨mk2, methk2, hn2, hmk2, hstk, habk⟩ := Cond.instanceMethod_spec (hpay _ q596 a U X.warmed)
  cases hn.symm.trans hn2
  cases hmk.symm.trans hmk2
  obtain ⟨hc1, hc2, ha, hR, hwm⟩ := hp
  dsimp only [Pt.U, Pt.locs, Pt.cells, Pt.slots] at hc1 hc2 hR hwm
  subst ha
  obtain ⟨cell, q1, q2, q3, q4, q5, q6, -⟩ := hR.2.2.2.2.2 b _ hb
  obtain ⟨q51, q52, q53, q54⟩ := q5 (show (9 : Nat) < 200 by decide)
  obtain ⟨r1, f1, f2, f3⟩ := q6 (show kd 9 < 99 by decide)
  cases Option.some.inj f1
  have f3 : ∀ (j : Nat) (w : Value), (v :: vs)[j]? = some w → cell.slots[D.2 9 j]? = some w := f3
  have hslot : cell.slots[D.2 9 0]? = some v := f3 0 v rfl
  have hent : cell.enterable U.cur := Or.inl ⟨q53, q54⟩
  obtain ⟨-, hsl, -⟩ := (hKn.moved X.warmed.alike).1 9 (RX6, TX6, 8) rfl
  obtain ⟨cf, kf, fi, fd, g1, g2, g3⟩ := hsl 0 (by decide)
  have g1 : U.fieldFound? "java/lang/Throwable" "cause" "Ljava/lang/Throwable;" = some (cf, kf, fi, fd) := g1
  obtain ⟨Y₀, hin⟩ := into_sync X hg hsize hdg #[.ref b] (R' := { frames := 0, locals := 0, cells := 0, slots := 0 }) hmk hck hlocks hstk rfl q1 hent (plain_of hn (by decide)) (by show 0 + 1 ≤ _; omega) (by rw [hml]; show _ + _ + (1 + 2 + 11) + 0 ≤ _; omega) (by show c0 + 0 ≤ _; omega) (by show n0 + 0 ≤ _; omega)
  have hloc : entryFrameSync mk #[.ref b] ck.maxLocals b = { method := mk, pc := 0, locals := #[.val (.ref b)], stack := [], locked := some b, monitorRoom := 1 } := by rw [hml]; rfl
  rw [hloc] at Y₀ hin
  generalize hV : ((U.setCell b (cell.withEntry U.cur)).setTop g).pushFrame (.java { method := mk, pc := 0, locals := #[.val (.ref b)], stack := [], locked := some b, monitorRoom := 1 }) = V at Y₀ hin
  have hlt : b < U.heap.size := (Array.getElem?_eq_some_iff.mp q1).1
  have hVc : V.heap[b]? = some (cell.withEntry U.cur) := by
    rw [← hV]
    show (U.heap.setIfInBounds b (cell.withEntry U.cur))[b]? = _
    simp [hlt]
  have hVh : V.heap = U.heap.setIfInBounds b (cell.withEntry U.cur) := by rw [← hV]; rfl
  have hownU : U.vm.findClass "java/lang/Throwable" = some mk.cls := findClass_of_methodNamed hn
  have hlinkU : (Cond.fieldLink "java/lang/Throwable" 7 "java/lang/Throwable" "cause" "Ljava/lang/Throwable;").before #[.ref b] ((U.calling g mk #[.ref b]).setCell b (cell.withEntry U.cur)) = true := hpay _ q532 _ ((U.calling g mk #[.ref b]).setCell b (cell.withEntry U.cur)) X.warmed
  have hfoundU : ((U.calling g mk #[.ref b]).setCell b (cell.withEntry U.cur)).fieldFound? "java/lang/Throwable" "cause" "Ljava/lang/Throwable;" = some (cf, kf, fi, fd) := g1
  have hval : (cell.withEntry U.cur).slots[fd.slot]? = some v := by rw [g2]; exact hslot
  obtain ⟨vm1, Y1, st1⟩ := Y₀.getfield hexec (own := "java/lang/Throwable") hownU hlinkU hfoundU g3 hVc q3 hval (g := { method := mk, pc := 1, locals := #[.val (.ref b)], stack := [.ref b], locked := some b, monitorRoom := 1 }) rfl rfl (by rw [hbytes]; exact dG_1)
  obtain ⟨V1, hV1⟩ : ∃ V1, V1 = V.setVm vm1 := ⟨_, rfl⟩
  rw [← hV1] at Y1 st1
  have hV1h : V1.heap = V.heap := by rw [hV1]; rfl
  obtain ⟨vm2, Y2, st2⟩ := Y1.getfield (cell := cell.withEntry U.cur) hexec (own := "java/lang/Throwable") hownU hlinkU hfoundU g3 (by rw [hV1h]; exact hVc) q3 hval (g := { method := mk, pc := 13, locals := #[.val (.ref b)], stack := [.ref b], locked := some b, monitorRoom := 1 }) rfl rfl (by rw [hbytes]; exact dG_13)
  obtain ⟨V2, hV2⟩ : ∃ V2, V2 = V1.setVm vm2 := ⟨_, rfl⟩
  rw [← hV2] at Y2 st2
  have hV2h : V2.heap = V.heap := by rw [hV2]; exact hV1h
  have hsC : (U.calling g mk #[.ref b]).heap[b]? = some cell := q1
  -- where the method ends, from either of its two ways
  have fin : ∀ (W : State) (w : Value), W.heap = V.heap → (w = .null ∨ ∃ q, w = .ref q) → w = (if v = .ref b then .null else v) → Stand p l e { frames := 0, locals := 0, cells := 0, slots := 0 } ((U.calling g mk #[.ref b]).setCell b (cell.withEntry U.cur)) mk #[.ref b] (.java g :: below) methk ck W [] 0 0 →
      (∀ tgt, Steps p.tables e (.java g :: below) (W.setTop { method := mk, pc := 16, locals := #[.val (.ref b)], stack := [w], locked := some b, monitorRoom := 1 }) tgt → Steps p.tables e (.java g :: below) (V.setTop { method := mk, pc := 0, locals := #[.val (.ref b)], stack := [], locked := some b, monitorRoom := 1 }) tgt) →
      ∃ B : Pt, Stand p l e R s m sargs below meth c B.U B.locs B.cells B.slots ∧ rPost D s0 Q ⟨U, Ls, c0, n0⟩ [.ref b].toArray (some w) B ∧ Steps p.tables e below (doInvoke e (U.setTop g) [] mk [.ref b].toArray).1 (B.U.setTop { g with pc := g.pc + 3, stack := (some w).toList ++ g.stack }) := by
    intro W w hWh hwr hwq YW hst
    have hcurW : (U.calling g mk #[.ref b]).cur = U.cur := rfl
    obtain ⟨fs, cellT, hT, hdo, hrun, hended, hW2, hframe⟩ := Stand.leaveSync (cell := cell) YW hsC hent hlocks (v := some w) (fun h => by rw [hret] at h; cases h)
    have hcT : cellT = cell.withEntry U.cur := by
      rw [hWh, hVc] at hT
      exact (Option.some.inj hT).symm
    subst hcT
    have hleft : (cell.withEntry U.cur).left = cell := Cell.left_withEntry' hent
    obtain ⟨T', X', hW', hB', ht⟩ := X.outOf hg hdg hended hW2 hframe
    have hT' : T'.heap = U.heap := by
      have h1 : ((W.setCell b (cell.withEntry U.cur).left).setFrames fs).heap = (T'.setTop { g with pc := g.pc + 3, stack := (some w).toList ++ g.stack }).heap := by rw [ht]
      have h2 : T'.heap = W.heap.setIfInBounds b (cell.withEntry U.cur).left := h1.symm
      rw [h2, hleft, hWh, hVh]
      apply Array.ext_getElem?
      intro i
      by_cases hi : i = b
      · subst hi
        rw [q1]
        simp [hlt]
      · simp [Array.getElem?_setIfInBounds, Ne.symm hi]
    refine ⟨⟨T', Ls ++ [], c0 + 0, n0 + 0⟩, X', ⟨h, [], by show RelH D s0 h T'.heap; rw [hT']; exact hR, by rw [hwq]; exact hq, rfl, fun z hz => nomatch hz⟩, ?_⟩
    show Steps p.tables e below (doInvoke e (U.setTop g) [] mk #[.ref b]).1 (T'.setTop { g with pc := g.pc + 3, stack := (some w).toList ++ g.stack })
    rw [hin [], ← ht]
    refine steps_weak (mid := [.java g]) (hst _ ?_)
    have hret' : methk.sig.returnType = some (.object "java/lang/Throwable") := hret
    rcases hwr with rfl | ⟨q, rfl⟩
    · jvm_step YW.here [YW.here.top, hexec, hbytes, dG_16, YW.method', hret', Value.isRef, FieldType.isReference]
      intro acts
      rw [hdo { method := mk, pc := 16, locals := #[.val (.ref b)], stack := [], locked := some b, monitorRoom := 1 } acts rfl rfl rfl]
      exact Steps.refl _
    · jvm_step YW.here [YW.here.top, hexec, hbytes, dG_16, YW.method', hret', Value.isRef, FieldType.isReference]
      intro acts
      rw [hdo { method := mk, pc := 16, locals := #[.val (.ref b)], stack := [], locked := some b, monitorRoom := 1 } acts rfl rfl rfl]
      exact Steps.refl _
  by_cases hvb : v = .ref b
  · subst hvb
    obtain ⟨B, h1, h2, h3⟩ := fin V1 .null hV1h (Or.inl rfl) (by rw [if_pos rfl]) Y1 (fun tgt hst => by
      jvm_step Y₀.here [hexec, hbytes, dG_0, Value.isRef]
      refine st1 _ ?_
      show Steps p.tables e (.java g :: below) (V1.setTop { method := mk, pc := 4, locals := #[.val (.ref b)], stack := [.ref b], locked := some b, monitorRoom := 1 }) _
      jvm_step Y1.here [hexec, hbytes, dG_4, Value.isRef]
      jvm_step Y1.here [Y1.here.top, hexec, hbytes, dG_5, Value.asRef?, Op.if_acmp.holds]
      jvm_step Y1.here [hexec, hbytes, dG_8]
      jvm_step Y1.here [hexec, hbytes, dG_9]
      exact hst)
    exact Or.inl ⟨_, B, h1, h2, h3⟩
  · obtain ⟨q, rfl⟩ : ∃ q, v = va_rf q := hv.resolve_left hvb
    have hwr : va_rf q = .null ∨ ∃ q', va_rf q = .ref q' := by cases q with
      | none => exact Or.inl rfl
      | some q' => exact Or.inr ⟨q', rfl⟩
    obtain ⟨B, h1, h2, h3⟩ := fin V2 (va_rf q) hV2h hwr (by rw [if_neg hvb]) Y2 (fun tgt hst => by
      jvm_step Y₀.here [hexec, hbytes, dG_0, Value.isRef]
      refine st1 _ ?_
      show Steps p.tables e (.java g :: below) (V1.setTop { method := mk, pc := 4, locals := #[.val (.ref b)], stack := [va_rf q], locked := some b, monitorRoom := 1 }) _
      jvm_step Y1.here [hexec, hbytes, dG_4, Value.isRef]
      cases q with
      | none =>
        jvm_step Y1.here [Y1.here.top, hexec, hbytes, dG_5, va_rf, Value.asRef?, Op.if_acmp.holds]
        jvm_step Y1.here [hexec, hbytes, dG_12, Value.isRef]
        exact st2 _ hst
      | some q' =>
        have hne : ¬ q' = b := fun h => hvb (by rw [h]; rfl)
        jvm_step Y1.here [Y1.here.top, hexec, hbytes, dG_5, va_rf, Value.asRef?, Op.if_acmp.holds, hne]
        jvm_step Y1.here [hexec, hbytes, dG_12, Value.isRef]
        exact st2 _ hst)
    exact Or.inl ⟨_, B, h1, h2, h3⟩
end CI
theorem sp_cause {l : Launch} {D : DE} {s0 : State} (hdecl : va_Nw (.declares ⟨"java/lang/Throwable", "getCause", "()Ljava/lang/Throwable;"⟩) s0) : SPcause l D s0 := by
  intro x cc own y nL ret Q K pc index hx G hr hl9 d kk ls st h hk H locs lsC hR hL hl
  obtain ⟨-, hx2, hx3⟩ := hx
  unfold o_getCause at hk
  split at hk
  · next b r =>
    split at hk
    · next c v vs hσ =>
      obtain ⟨⟨hc2, hin⟩, hcat, hk⟩ := hk
      have hkc : kd c = 9 := List.mem_singleton.1 (inK_spec hin)
      have hc9 : c = 9 := by unfold kd at hkc; omega
      subst hc9
      obtain ⟨cell, r2, ks, f1, f2, f3, f4, f5, f6⟩ := rcv_of G.kn hR (cs := [9]) (fun c hc => by rw [List.mem_singleton.1 hc]; decide) hσ hin
      cases (Option.some.inj f1)
      have hr2 : 8 + (5 + 11) + 100 ≤ x.1.2.2.2.locals := hr.2
      have hr1 : 2 + 1 ≤ x.1.2.2.2.frames := hr.1
      have hv : v = .ref b ∨ ∃ q, v = va_rf q := by
        by_cases e : v = .ref b
        · exact Or.inl e
        · rw [if_neg e] at hk; exact Or.inr hk.1
      have hq : callPost x_no K ls r (.inl (some (if v = .ref b then .null else v))) h := by
        by_cases e : v = .ref b
        · rw [if_pos e] at hk ⊢; exact hk
        · rw [if_neg e] at hk ⊢; exact hk.2
      refine aW_le G.gr hR fun e1 e2 => call_end (len := 3) (h := h) (r := r) (a := (Value.ref b :: []).toArray) G hL hl kk sx_no fun T hT X0 => ?_
      have hK := cause_back (l := x.1.2.1) (R := x.1.2.2.2) (p := x.1.1) (e := x.1.2.2.1) (below := x.2.1.2.2.2) (s := yS x) (sargs := yA x) (D := yD x) (s0 := x.2.2.2.1.2.1) (h := h) (Q := callPost x_no K ls r) (b := b) (v := v) (vs := vs) G.hts G.kn G.b.1 hσ rfl hv hq (by omega) (by omega)
      have hdw : va_Decl (yS x) ⟨"java/lang/Throwable", "getCause", "()Ljava/lang/Throwable;"⟩ := va_Decl.abs (va_Nw.warmD (by have := G.warm; rw [hx3] at this; exact this) hdecl)
      obtain ⟨r0, rr, hn, hrm, hstR, hsigR⟩ := hdw
      obtain ⟨cn, ckk, r1, hcn, hckk, hni, hfo, hn1⟩ := Cond.sameMethod_found (G.hts _ q593)
      cases hn.symm.trans hn1
      obtain ⟨mk, methM, hnamed, hmethM, -, habM⟩ := Cond.instanceMethod_spec (G.hts _ q596)
      obtain ⟨c2, r3, m2, z1, z2, z3, z4, kP, hkP, hkPi⟩ := Cond.selects_spec (G.hts _ q595)
      cases f5.symm.trans z1
      cases hfo.symm.trans z2
      cases hnamed.symm.trans z3
      have hselP : selectMethod x.1.2.2.1.platform (yS x).vm cell.cls r0 = .method mk := by rw [Launch.admits_selectMethod X0.admits]; exact z4
      have hlen : ([] : List Value).length = rr.sig.parameters.length := by
        have h1 : (parseMethodDescriptor "()Ljava/lang/Throwable;").map (fun d => d.parameters.length) = some 0 := by decide +kernel
        have h2 : parseMethodDescriptor "()Ljava/lang/Throwable;" = some rr.sig := hsigR
        rw [h2] at h1
        exact (Option.some.inj h1).symm
      obtain ⟨vm₁, X₁, hstep₁⟩ := X0.invokevirtualUp G.b.1 G.ow (G.hts _ hl9) (G.hts _ q593) (by decide) hn hrm hstR (a := b) (cell := cell) (by rw [hT]; exact f3)
        (fun z h => by rw [h] at f4; cases f4) hselP hmethM habM hkP hkPi (g := F0 (yM x) pc lsC (.ref b :: r)) rfl (argsL := []) (rest := r) hlen rfl (by rw [G.b.2]; exact d)
      rcases hK (yM x) x.2.2.1.1 x.2.2.1.2.1 ⟨T.setVm vm₁, locs, _, _⟩ { F0 (yM x) pc lsC (.ref b :: r) with stack := r } (.invokevirtual index) mk (Value.ref b :: []).toArray X₁ rfl (by rw [G.ml]; exact hl.1) (by rw [G.b.2]; exact d) (r_rm hcat rfl) (X₁.named hnamed) (call_pre G e1 e2 hR hT X₁.warmed) with ⟨v9, B, X', hpost, hsteps⟩ | ⟨q, B, X', hpost, hsteps⟩
      · exact Or.inl ⟨v9, vm₁, B, X₁.warmed, X', hpost, fun target h => hstep₁ _ fun acts => by rw [doInvoke_state]; exact hsteps.trans h⟩
      · exact Or.inr ⟨q, vm₁, B, X₁.warmed, X', hpost, hstep₁ _ fun acts => by rw [doInvoke_state]; exact hsteps⟩
    · exact hk.elim
  · exact hk.elim
