set_option maxRecDepth 100000
/-! ChantRules.arcOf(IIIII)LChantRules$Arc; (X0_arcOf) -/
theorem nmk_51 : nm_ok yX8_init 5 := ⟨by decide +kernel, by decide +kernel, by decide +kernel⟩
theorem nmk_52 : nm_ok yX7_init 4 := ⟨by decide +kernel, by decide +kernel, by decide +kernel⟩
def bX0_arcOf_33 (E : Nat → Value) (Q : Rs → HS → Prop) : Ct :=
  o_areturn Q
def bX0_arcOf_20 (E : Nat → Value) (Q : Rs → HS → Prop) : Ct :=
  o_new 11 5 [.int 0, .int 0, .int 0, .int 0, .int 0] <|
  o_dup <|
  o_iload 0 <|
  o_iload 1 <|
  o_iload 2 <|
  o_iload 3 <|
  o_iload 4 <|
  o_callI 6 (wX8_init E) (x_out Q) <|
  (bX0_arcOf_33 E Q)
def bX0_arcOf_0 (E : Nat → Value) (Q : Rs → HS → Prop) : Ct :=
  o_iload 2 <|
  o_push (.int 4) <|
  o_icmpne (bX0_arcOf_20 E Q) <|
  o_new 10 4 [.int 0, .int 0, .int 0, .int 0] <|
  o_dup <|
  o_iload 0 <|
  o_iload 1 <|
  o_iload 3 <|
  o_iload 4 <|
  o_callI 5 (wX7_init E) (x_out Q) <|
  (bX0_arcOf_33 E Q)
def wX0_arcOf (E : Nat → Value) : Wp := fun av h Q => match av with
  | [a0, a1, a2, a3, a4] => bX0_arcOf_0 E Q [a0, a1, a2, a3, a4] [] h
  | _ => False
set_option maxHeartbeats 4000000 in
theorem tX0_arcOf_33 {x : CX} {E : Nat → Value} {Q : Rs → HS → Prop} (EN : EX x E) (G : Gd x cX0_arcOf "ChantRules" yX0_arcOf 5 (Option.some (Jvm.ClassFile.FieldType.object "ChantRules$Arc")) Q) (hF : x.1.2.2.2.frames = 3 ∧ x.1.2.2.2.locals = 89) (hC : x.2.2.2.2.2 = (fun _ => false)) (hxt : (∀ z ∈ x.2.2.1.2.1.exceptionTable.toList, False)) : Snd x 33 (bX0_arcOf_33 E Q) := by
  unfold bX0_arcOf_33
  exact s_areturn (Or.inl ⟨_, rfl⟩) G dX0_arcOf_33
set_option maxHeartbeats 4000000 in
theorem tX0_arcOf_20 {x : CX} {E : Nat → Value} {Q : Rs → HS → Prop} (EN : EX x E) (G : Gd x cX0_arcOf "ChantRules" yX0_arcOf 5 (Option.some (Jvm.ClassFile.FieldType.object "ChantRules$Arc")) Q) (hF : x.1.2.2.2.frames = 3 ∧ x.1.2.2.2.locals = 89) (hC : x.2.2.2.2.2 = (fun _ => false)) (hxt : (∀ z ∈ x.2.2.1.2.1.exceptionTable.toList, False)) : Snd x 20 (bX0_arcOf_20 E Q) := by
  unfold bX0_arcOf_20
  refine s_new (C := RX8) (T0 := TX8) (N := 5) G.b G.ow G.kn G.gr G.hts rfl (by decide) in_X8 q656 q657 q100 tyX8 tyX8_ok rfl dX0_arcOf_20 ?_
  refine s_dup G.b dX0_arcOf_23 ?_
  refine s_iload_n rfl G.b dX0_arcOf_24 ?_
  refine s_iload_n rfl G.b dX0_arcOf_25 ?_
  refine s_iload_n rfl G.b dX0_arcOf_26 ?_
  refine s_iload_n rfl G.b dX0_arcOf_27 ?_
  refine s_iload G.b dX0_arcOf_28 ?_
  refine s_callI G (mX8_init EN) rfl q658 q659 q100 q660 nmk_51 (rm_of hF (Nat.le_of_ble_eq_true rfl) (Nat.le_of_ble_eq_true rfl)) dX0_arcOf_30 ?_ (sx_out G (fun z hz => (hxt z hz).elim))
  exact (tX0_arcOf_33 EN G hF hC hxt)
set_option maxHeartbeats 4000000 in
theorem tX0_arcOf_0 {x : CX} {E : Nat → Value} {Q : Rs → HS → Prop} (EN : EX x E) (G : Gd x cX0_arcOf "ChantRules" yX0_arcOf 5 (Option.some (Jvm.ClassFile.FieldType.object "ChantRules$Arc")) Q) (hF : x.1.2.2.2.frames = 3 ∧ x.1.2.2.2.locals = 89) (hC : x.2.2.2.2.2 = (fun _ => false)) (hxt : (∀ z ∈ x.2.2.1.2.1.exceptionTable.toList, False)) : Snd x 0 (bX0_arcOf_0 E Q) := by
  unfold bX0_arcOf_0
  refine s_iload_n rfl G.b dX0_arcOf_0 ?_
  refine s_iconst (by decide) G.b dX0_arcOf_1 ?_
  refine s_icmpne (tgt := 20) G.b dX0_arcOf_2 (by decide) (tX0_arcOf_20 EN G hF hC hxt) ?_
  refine s_new (C := RX7) (T0 := TX7) (N := 4) G.b G.ow G.kn G.gr G.hts rfl (by decide) in_X7 q633 q634 q99 tyX7 tyX7_ok rfl dX0_arcOf_5 ?_
  refine s_dup G.b dX0_arcOf_8 ?_
  refine s_iload_n rfl G.b dX0_arcOf_9 ?_
  refine s_iload_n rfl G.b dX0_arcOf_10 ?_
  refine s_iload_n rfl G.b dX0_arcOf_11 ?_
  refine s_iload G.b dX0_arcOf_12 ?_
  refine s_callI G (mX7_init EN) rfl q635 q636 q99 q637 nmk_52 (rm_of hF (Nat.le_of_ble_eq_true rfl) (Nat.le_of_ble_eq_true rfl)) dX0_arcOf_14 ?_ (sx_out G (fun z hz => (hxt z hz).elim))
  exact s_goto (tgt := 33) G.b dX0_arcOf_17 (by decide) (tX0_arcOf_33 EN G hF hC hxt)
set_option maxHeartbeats 4000000 in
theorem mX0_arcOf {l : Launch} {D : DE} {s0 : State} {E : Nat → Value} (EN : EV l D s0 E) : rMet l D s0 yX0_arcOf (ws_ yX0_arcOf cX0_arcOf 5 (Option.some (Jvm.ClassFile.FieldType.object "ChantRules$Arc"))) 3 89 (wX0_arcOf E) := by
  refine body_met (fun _ => false) EN.kn (fun w h => h) (by decide +kernel) rfl (fun av h Q hw => ?_) ?_
  · unfold wX0_arcOf at hw
    split at hw
    · exact Nat.le_of_ble_eq_true rfl
    · exact hw.elim
  · intro p e s m below meth c av h Q hxt G hw
    unfold wX0_arcOf at hw
    split at hw
    · exact tX0_arcOf_0 EN G ⟨rfl, rfl⟩ rfl hxt _ _ _ hw
    · exact hw.elim
/-! ChantRules.areSounds(II)Z (X0_areSounds) -/
def bX0_areSounds_23 (E : Nat → Value) (Q : Rs → HS → Prop) : Ct :=
  o_ireturn .boolean Q
def bX0_areSounds_22 (E : Nat → Value) (Q : Rs → HS → Prop) : Ct :=
  o_push (.int 0) <|
  (bX0_areSounds_23 E Q)
def bX0_areSounds_0 (E : Nat → Value) (Q : Rs → HS → Prop) : Ct :=
  o_iload 0 <|
  o_push (.int 0) <|
  o_push (.int 4) <|
  o_call 3 (wX0_isIn E) (x_out Q) <|
  o_ifeq (bX0_areSounds_22 E Q) <|
  o_iload 1 <|
  o_push (.int 0) <|
  o_push (.int 4) <|
  o_call 3 (wX0_isIn E) (x_out Q) <|
  o_ifeq (bX0_areSounds_22 E Q) <|
  o_push (.int 1) <|
  (bX0_areSounds_23 E Q)
def wX0_areSounds (E : Nat → Value) : Wp := fun av h Q => match av with
  | [a0, a1] => bX0_areSounds_0 E Q [a0, a1] [] h
  | _ => False
set_option maxHeartbeats 4000000 in
theorem tX0_areSounds_23 {x : CX} {E : Nat → Value} {Q : Rs → HS → Prop} (EN : EX x E) (G : Gd x cX0_areSounds "ChantRules" yX0_areSounds 2 (Option.some Jvm.ClassFile.FieldType.boolean) Q) (hF : x.1.2.2.2.frames = 3 ∧ x.1.2.2.2.locals = 86) (hC : x.2.2.2.2.2 = (fun _ => false)) (hxt : (∀ z ∈ x.2.2.1.2.1.exceptionTable.toList, False)) : Snd x 23 (bX0_areSounds_23 E Q) := by
  unfold bX0_areSounds_23
  exact s_ireturn G dX0_areSounds_23
set_option maxHeartbeats 4000000 in
theorem tX0_areSounds_22 {x : CX} {E : Nat → Value} {Q : Rs → HS → Prop} (EN : EX x E) (G : Gd x cX0_areSounds "ChantRules" yX0_areSounds 2 (Option.some Jvm.ClassFile.FieldType.boolean) Q) (hF : x.1.2.2.2.frames = 3 ∧ x.1.2.2.2.locals = 86) (hC : x.2.2.2.2.2 = (fun _ => false)) (hxt : (∀ z ∈ x.2.2.1.2.1.exceptionTable.toList, False)) : Snd x 22 (bX0_areSounds_22 E Q) := by
  unfold bX0_areSounds_22
  refine s_iconst (by decide) G.b dX0_areSounds_22 ?_
  exact (tX0_areSounds_23 EN G hF hC hxt)
set_option maxHeartbeats 4000000 in
theorem tX0_areSounds_0 {x : CX} {E : Nat → Value} {Q : Rs → HS → Prop} (EN : EX x E) (G : Gd x cX0_areSounds "ChantRules" yX0_areSounds 2 (Option.some Jvm.ClassFile.FieldType.boolean) Q) (hF : x.1.2.2.2.frames = 3 ∧ x.1.2.2.2.locals = 86) (hC : x.2.2.2.2.2 = (fun _ => false)) (hxt : (∀ z ∈ x.2.2.1.2.1.exceptionTable.toList, False)) : Snd x 0 (bX0_areSounds_0 E Q) := by
  unfold bX0_areSounds_0
  refine s_iload_n rfl G.b dX0_areSounds_0 ?_
  refine s_iconst (by decide) G.b dX0_areSounds_1 ?_
  refine s_iconst (by decide) G.b dX0_areSounds_2 ?_
  refine s_callS G (mX0_isIn EN) q339 q340 q76 q341 nmk_50 (rm_of hF (Nat.le_of_ble_eq_true rfl) (Nat.le_of_ble_eq_true rfl)) dX0_areSounds_3 ?_ (sx_out G (fun z hz => (hxt z hz).elim))
  refine s_ifeq (tgt := 22) G.b dX0_areSounds_6 (by decide) (tX0_areSounds_22 EN G hF hC hxt) ?_
  refine s_iload_n rfl G.b dX0_areSounds_9 ?_
  refine s_iconst (by decide) G.b dX0_areSounds_10 ?_
  refine s_iconst (by decide) G.b dX0_areSounds_11 ?_
  refine s_callS G (mX0_isIn EN) q339 q340 q76 q341 nmk_50 (rm_of hF (Nat.le_of_ble_eq_true rfl) (Nat.le_of_ble_eq_true rfl)) dX0_areSounds_12 ?_ (sx_out G (fun z hz => (hxt z hz).elim))
  refine s_ifeq (tgt := 22) G.b dX0_areSounds_15 (by decide) (tX0_areSounds_22 EN G hF hC hxt) ?_
  refine s_iconst (by decide) G.b dX0_areSounds_18 ?_
  exact s_goto (tgt := 23) G.b dX0_areSounds_19 (by decide) (tX0_areSounds_23 EN G hF hC hxt)
set_option maxHeartbeats 4000000 in
theorem mX0_areSounds {l : Launch} {D : DE} {s0 : State} {E : Nat → Value} (EN : EV l D s0 E) : rMet l D s0 yX0_areSounds (ws_ yX0_areSounds cX0_areSounds 2 (Option.some Jvm.ClassFile.FieldType.boolean)) 3 86 (wX0_areSounds E) := by
  refine body_met (fun _ => false) EN.kn (fun w h => h) (by decide +kernel) rfl (fun av h Q hw => ?_) ?_
  · unfold wX0_areSounds at hw
    split at hw
    · exact Nat.le_of_ble_eq_true rfl
    · exact hw.elim
  · intro p e s m below meth c av h Q hxt G hw
    unfold wX0_areSounds at hw
    split at hw
    · exact tX0_areSounds_0 EN G ⟨rfl, rfl⟩ rfl hxt _ _ _ hw
    · exact hw.elim
/-! java/util/ArrayDeque.newCapacity(II)I (J3_newCapacity) -/
def bJ3_newCapacity_61 (E : Nat → Value) (Q : Rs → HS → Prop) : Ct :=
  o_ireturn .int Q
def bJ3_newCapacity_59 (E : Nat → Value) (Q : Rs → HS → Prop) : Ct :=
  o_push (.int 2147483639) <|
  (bJ3_newCapacity_61 E Q)
def bJ3_newCapacity_44 (E : Nat → Value) (Q : Rs → HS → Prop) : Ct :=
  o_iload 3 <|
  o_iload 2 <|
  o_iadd <|
  o_push (.int 2147483639) <|
  o_isub <|
  o_ifge (bJ3_newCapacity_59 E Q) <|
  o_iload 3 <|
  o_iload 2 <|
  o_iadd <|
  (bJ3_newCapacity_61 E Q)
def bJ3_newCapacity_36 (E : Nat → Value) (Q : Rs → HS → Prop) : Ct :=
  o_iload 1 <|
  o_iload 2 <|
  o_icmple (bJ3_newCapacity_44 E Q) <|
  o_iload 4 <|
  o_ireturn .int Q
def bJ3_newCapacity_33 (E : Nat → Value) (Q : Rs → HS → Prop) : Ct :=
  o_push (.int 2147483647) <|
  o_ireturn .int Q
def bJ3_newCapacity_0 (E : Nat → Value) (Q : Rs → HS → Prop) : Ct :=
  o_aload 0 <|
  o_getf [17] 0 <|
  o_alen <|
  o_istore 3 <|
  o_iload 3 <|
  o_iload 1 <|
  o_iadd <|
  o_dup <|
  o_istore 4 <|
  o_push (.int 2147483639) <|
  o_isub <|
  o_ifle (bJ3_newCapacity_36 E Q) <|
  o_iload 4 <|
  o_ifge (bJ3_newCapacity_33 E Q) <|
  o_no
def wJ3_newCapacity (E : Nat → Value) : Wp := fun av h Q => match av with
  | [a0, a1, a2] => bJ3_newCapacity_0 E Q [a0, a1, a2, jk, jk] [] h
  | _ => False
set_option maxHeartbeats 4000000 in
theorem tJ3_newCapacity_61 {x : CX} {E : Nat → Value} {Q : Rs → HS → Prop} (EN : EX x E) (G : Gd x cJ3_newCapacity "java/util/ArrayDeque" yJ3_newCapacity 5 (Option.some Jvm.ClassFile.FieldType.int) Q) (hF : x.1.2.2.2.frames = 2 ∧ x.1.2.2.2.locals = 64) (hC : x.2.2.2.2.2 = (fun _ => false)) (hxt : (∀ z ∈ x.2.2.1.2.1.exceptionTable.toList, False)) : Snd x 61 (bJ3_newCapacity_61 E Q) := by
  unfold bJ3_newCapacity_61
  exact s_ireturn G dJ3_newCapacity_61
set_option maxHeartbeats 4000000 in
theorem tJ3_newCapacity_59 {x : CX} {E : Nat → Value} {Q : Rs → HS → Prop} (EN : EX x E) (G : Gd x cJ3_newCapacity "java/util/ArrayDeque" yJ3_newCapacity 5 (Option.some Jvm.ClassFile.FieldType.int) Q) (hF : x.1.2.2.2.frames = 2 ∧ x.1.2.2.2.locals = 64) (hC : x.2.2.2.2.2 = (fun _ => false)) (hxt : (∀ z ∈ x.2.2.1.2.1.exceptionTable.toList, False)) : Snd x 59 (bJ3_newCapacity_59 E Q) := by
  unfold bJ3_newCapacity_59
  refine s_ldcI G.b G.ow G.hts q562 dJ3_newCapacity_59 ?_
  exact (tJ3_newCapacity_61 EN G hF hC hxt)
set_option maxHeartbeats 4000000 in
theorem tJ3_newCapacity_44 {x : CX} {E : Nat → Value} {Q : Rs → HS → Prop} (EN : EX x E) (G : Gd x cJ3_newCapacity "java/util/ArrayDeque" yJ3_newCapacity 5 (Option.some Jvm.ClassFile.FieldType.int) Q) (hF : x.1.2.2.2.frames = 2 ∧ x.1.2.2.2.locals = 64) (hC : x.2.2.2.2.2 = (fun _ => false)) (hxt : (∀ z ∈ x.2.2.1.2.1.exceptionTable.toList, False)) : Snd x 44 (bJ3_newCapacity_44 E Q) := by
  unfold bJ3_newCapacity_44
  refine s_iload_n rfl G.b dJ3_newCapacity_44 ?_
  refine s_iload_n rfl G.b dJ3_newCapacity_45 ?_
  refine s_iadd G.b dJ3_newCapacity_46 ?_
  refine s_ldcI G.b G.ow G.hts q562 dJ3_newCapacity_47 ?_
  refine s_isub G.b dJ3_newCapacity_49 ?_
  refine s_ifge (tgt := 59) G.b dJ3_newCapacity_50 (by decide) (tJ3_newCapacity_59 EN G hF hC hxt) ?_
  refine s_iload_n rfl G.b dJ3_newCapacity_53 ?_
  refine s_iload_n rfl G.b dJ3_newCapacity_54 ?_
  refine s_iadd G.b dJ3_newCapacity_55 ?_
  exact s_goto (tgt := 61) G.b dJ3_newCapacity_56 (by decide) (tJ3_newCapacity_61 EN G hF hC hxt)
set_option maxHeartbeats 4000000 in
theorem tJ3_newCapacity_36 {x : CX} {E : Nat → Value} {Q : Rs → HS → Prop} (EN : EX x E) (G : Gd x cJ3_newCapacity "java/util/ArrayDeque" yJ3_newCapacity 5 (Option.some Jvm.ClassFile.FieldType.int) Q) (hF : x.1.2.2.2.frames = 2 ∧ x.1.2.2.2.locals = 64) (hC : x.2.2.2.2.2 = (fun _ => false)) (hxt : (∀ z ∈ x.2.2.1.2.1.exceptionTable.toList, False)) : Snd x 36 (bJ3_newCapacity_36 E Q) := by
  unfold bJ3_newCapacity_36
  refine s_iload_n rfl G.b dJ3_newCapacity_36 ?_
  refine s_iload_n rfl G.b dJ3_newCapacity_37 ?_
  refine s_icmple (tgt := 44) G.b dJ3_newCapacity_38 (by decide) (tJ3_newCapacity_44 EN G hF hC hxt) ?_
  refine s_iload G.b dJ3_newCapacity_41 ?_
  exact s_ireturn G dJ3_newCapacity_43
set_option maxHeartbeats 4000000 in
theorem tJ3_newCapacity_33 {x : CX} {E : Nat → Value} {Q : Rs → HS → Prop} (EN : EX x E) (G : Gd x cJ3_newCapacity "java/util/ArrayDeque" yJ3_newCapacity 5 (Option.some Jvm.ClassFile.FieldType.int) Q) (hF : x.1.2.2.2.frames = 2 ∧ x.1.2.2.2.locals = 64) (hC : x.2.2.2.2.2 = (fun _ => false)) (hxt : (∀ z ∈ x.2.2.1.2.1.exceptionTable.toList, False)) : Snd x 33 (bJ3_newCapacity_33 E Q) := by
  unfold bJ3_newCapacity_33
  refine s_ldcI G.b G.ow G.hts q567 dJ3_newCapacity_33 ?_
  exact s_ireturn G dJ3_newCapacity_35
set_option maxHeartbeats 4000000 in
theorem tJ3_newCapacity_0 {x : CX} {E : Nat → Value} {Q : Rs → HS → Prop} (EN : EX x E) (G : Gd x cJ3_newCapacity "java/util/ArrayDeque" yJ3_newCapacity 5 (Option.some Jvm.ClassFile.FieldType.int) Q) (hF : x.1.2.2.2.frames = 2 ∧ x.1.2.2.2.locals = 64) (hC : x.2.2.2.2.2 = (fun _ => false)) (hxt : (∀ z ∈ x.2.2.1.2.1.exceptionTable.toList, False)) : Snd x 0 (bJ3_newCapacity_0 E Q) := by
  unfold bJ3_newCapacity_0
  refine s_aload_n rfl G.b dJ3_newCapacity_0 ?_
  refine s_getf G.b G.ow G.kn (G.hts _ q217) (fun _ h => h) fa_9 dJ3_newCapacity_1 ?_
  refine s_alen G.b G.kn dJ3_newCapacity_4 ?_
  refine s_istore_n rfl G.b (by rw [G.nl]; decide) (fun _ _ => by rw [hC]) dJ3_newCapacity_5 ?_
  refine s_iload_n rfl G.b dJ3_newCapacity_6 ?_
  refine s_iload_n rfl G.b dJ3_newCapacity_7 ?_
  refine s_iadd G.b dJ3_newCapacity_8 ?_
  refine s_dup G.b dJ3_newCapacity_9 ?_
  refine s_istore G.b (by rw [G.nl]; decide) (fun _ _ => by rw [hC]) dJ3_newCapacity_10 ?_
  refine s_ldcI G.b G.ow G.hts q562 dJ3_newCapacity_12 ?_
  refine s_isub G.b dJ3_newCapacity_14 ?_
  refine s_ifle (tgt := 36) G.b dJ3_newCapacity_15 (by decide) (tJ3_newCapacity_36 EN G hF hC hxt) ?_
  refine s_iload G.b dJ3_newCapacity_18 ?_
  refine s_ifge (tgt := 33) G.b dJ3_newCapacity_20 (by decide) (tJ3_newCapacity_33 EN G hF hC hxt) ?_
  exact s_no
set_option maxHeartbeats 4000000 in
theorem mJ3_newCapacity {l : Launch} {D : DE} {s0 : State} {E : Nat → Value} (EN : EV l D s0 E) : rMet l D s0 yJ3_newCapacity (ws_ yJ3_newCapacity cJ3_newCapacity 5 (Option.some Jvm.ClassFile.FieldType.int)) 2 64 (wJ3_newCapacity E) := by
  refine body_met (fun _ => false) EN.kn (fun w h => h) (by decide +kernel) rfl (fun av h Q hw => ?_) ?_
  · unfold wJ3_newCapacity at hw
    split at hw
    · exact Nat.le_of_ble_eq_true rfl
    · exact hw.elim
  · intro p e s m below meth c av h Q hxt G hw
    unfold wJ3_newCapacity at hw
    split at hw
    · exact tJ3_newCapacity_0 EN G ⟨rfl, rfl⟩ rfl hxt _ _ _ hw
    · exact hw.elim
/-! java/util/Arrays.copyOf([Ljava/lang/Object;ILjava/lang/Class;)[Ljava/lang/Object; (J12_copyOf_2) -/
def bJ12_copyOf_2_0 (E : Nat → Value) (Q : Rs → HS → Prop) : Ct :=
  o_aload 2 <|
  o_no
def wJ12_copyOf_2 (E : Nat → Value) : Wp := fun av h Q => match av with
  | [a0, a1, a2] => bJ12_copyOf_2_0 E Q [a0, a1, a2, jk] [] h
  | _ => False
set_option maxHeartbeats 4000000 in
theorem tJ12_copyOf_2_0 {x : CX} {E : Nat → Value} {Q : Rs → HS → Prop} (EN : EX x E) (G : Gd x cJ12_copyOf_2 "java/util/Arrays" yJ12_copyOf_2 4 (Option.some (Jvm.ClassFile.FieldType.array (Jvm.ClassFile.FieldType.object "java/lang/Object"))) Q) (hF : x.1.2.2.2.frames = 8 ∧ x.1.2.2.2.locals = 200) (hC : x.2.2.2.2.2 = (fun _ => false)) (hxt : (∀ z ∈ x.2.2.1.2.1.exceptionTable.toList, False)) : Snd x 0 (bJ12_copyOf_2_0 E Q) := by
  unfold bJ12_copyOf_2_0
  refine s_aload_n rfl G.b dJ12_copyOf_2_0 ?_
  exact s_no
set_option maxHeartbeats 4000000 in
theorem mJ12_copyOf_2 {l : Launch} {D : DE} {s0 : State} {E : Nat → Value} (EN : EV l D s0 E) : rMet l D s0 yJ12_copyOf_2 (ws_ yJ12_copyOf_2 cJ12_copyOf_2 4 (Option.some (Jvm.ClassFile.FieldType.array (Jvm.ClassFile.FieldType.object "java/lang/Object")))) 8 200 (wJ12_copyOf_2 E) := by
  refine body_met (fun _ => false) EN.kn (fun w h => h) (by decide +kernel) rfl (fun av h Q hw => ?_) ?_
  · unfold wJ12_copyOf_2 at hw
    split at hw
    · exact Nat.le_of_ble_eq_true rfl
    · exact hw.elim
  · intro p e s m below meth c av h Q hxt G hw
    unfold wJ12_copyOf_2 at hw
    split at hw
    · exact tJ12_copyOf_2_0 EN G ⟨rfl, rfl⟩ rfl hxt _ _ _ hw
    · exact hw.elim
/-! java/util/Arrays.copyOf([Ljava/lang/Object;I)[Ljava/lang/Object; (J12_copyOf) -/
def bJ12_copyOf_0 (E : Nat → Value) (Q : Rs → HS → Prop) : Ct :=
  o_aload 0 <|
  o_iload 1 <|
  o_aload 0 <|
  o_no
def wJ12_copyOf (E : Nat → Value) : Wp := fun av h Q => match av with
  | [a0, a1] => bJ12_copyOf_0 E Q [a0, a1] [] h
  | _ => False
set_option maxHeartbeats 4000000 in
theorem tJ12_copyOf_0 {x : CX} {E : Nat → Value} {Q : Rs → HS → Prop} (EN : EX x E) (G : Gd x cJ12_copyOf "java/util/Arrays" yJ12_copyOf 2 (Option.some (Jvm.ClassFile.FieldType.array (Jvm.ClassFile.FieldType.object "java/lang/Object"))) Q) (hF : x.1.2.2.2.frames = 9 ∧ x.1.2.2.2.locals = 223) (hC : x.2.2.2.2.2 = (fun _ => false)) (hxt : (∀ z ∈ x.2.2.1.2.1.exceptionTable.toList, False)) : Snd x 0 (bJ12_copyOf_0 E Q) := by
  unfold bJ12_copyOf_0
  refine s_aload_n rfl G.b dJ12_copyOf_0 ?_
  refine s_iload_n rfl G.b dJ12_copyOf_1 ?_
  refine s_aload_n rfl G.b dJ12_copyOf_2 ?_
  exact s_no
set_option maxHeartbeats 4000000 in
theorem mJ12_copyOf {l : Launch} {D : DE} {s0 : State} {E : Nat → Value} (EN : EV l D s0 E) : rMet l D s0 yJ12_copyOf (ws_ yJ12_copyOf cJ12_copyOf 2 (Option.some (Jvm.ClassFile.FieldType.array (Jvm.ClassFile.FieldType.object "java/lang/Object")))) 9 223 (wJ12_copyOf E) := by
  refine body_met (fun _ => false) EN.kn (fun w h => h) (by decide +kernel) rfl (fun av h Q hw => ?_) ?_
  · unfold wJ12_copyOf at hw
    split at hw
    · exact Nat.le_of_ble_eq_true rfl
    · exact hw.elim
  · intro p e s m below meth c av h Q hxt G hw
    unfold wJ12_copyOf at hw
    split at hw
    · exact tJ12_copyOf_0 EN G ⟨rfl, rfl⟩ rfl hxt _ _ _ hw
    · exact hw.elim
/-! java/util/ArrayDeque.grow(I)V (J3_grow) -/
theorem nmk_53 : nm_ok yJ12_copyOf 2 := ⟨by decide +kernel, by decide +kernel, by decide +kernel⟩
theorem nmk_54 : nm_ok yJ3_newCapacity 2 := ⟨by decide +kernel, by decide +kernel, by decide +kernel⟩
def bJ3_grow_164 (E : Nat → Value) (Q : Rs → HS → Prop) (X145 : Ct) : Ct :=
  o_return Q
def bJ3_grow_145 (E : Nat → Value) (Q : Rs → HS → Prop) (X145 : Ct) : Ct :=
  o_iload 7 <|
  o_iload 8 <|
  o_icmpge (bJ3_grow_164 E Q X145) <|
  o_aload 5 <|
  o_iload 7 <|
  o_push .null <|
  o_aast <|
  o_iinc 7 1 <|
  X145
def bJ3_grow_96 (E : Nat → Value) (Q : Rs → HS → Prop) (X145 : Ct) : Ct :=
  o_iload 3 <|
  o_iload 2 <|
  o_isub <|
  o_istore 6 <|
  o_aload 5 <|
  o_aload 0 <|
  o_getf [17] 1 <|
  o_aload 5 <|
  o_aload 0 <|
  o_getf [17] 1 <|
  o_iload 6 <|
  o_iadd <|
  o_iload 2 <|
  o_aload 0 <|
  o_getf [17] 1 <|
  o_isub <|
  o_acopy <|
  o_aload 0 <|
  o_getf [17] 1 <|
  o_istore 7 <|
  o_aload 0 <|
  o_dup <|
  o_getf [17] 1 <|
  o_iload 6 <|
  o_iadd <|
  o_dup_x1 <|
  o_putf [17] 1 .int <|
  o_istore 8 <|
  X145
def bJ3_grow_49 (E : Nat → Value) (Q : Rs → HS → Prop) (X145 : Ct) : Ct :=
  o_aload 0 <|
  o_aload 0 <|
  o_getf [17] 0 <|
  o_iload 3 <|
  o_call 2 (wJ12_copyOf E) (x_out Q) <|
  o_dup_x1 <|
  o_putf [17] 0 (.array (.object "java/lang/Object")) <|
  o_astore 5 <|
  o_aload 0 <|
  o_getf [17] 2 <|
  o_aload 0 <|
  o_getf [17] 1 <|
  o_icmplt (bJ3_grow_96 E Q X145) <|
  o_aload 0 <|
  o_getf [17] 2 <|
  o_aload 0 <|
  o_getf [17] 1 <|
  o_icmpne (bJ3_grow_164 E Q X145) <|
  o_aload 5 <|
  o_aload 0 <|
  o_getf [17] 1 <|
  o_ald [103, 104, 105, 106, 107] <|
  o_ifnull (bJ3_grow_164 E Q X145) <|
  (bJ3_grow_96 E Q X145)
def bJ3_grow_41 (E : Nat → Value) (Q : Rs → HS → Prop) (X145 : Ct) : Ct :=
  o_aload 0 <|
  o_iload 1 <|
  o_iload 4 <|
  o_callV [17] 3 (wJ3_newCapacity E) (x_out Q) <|
  o_istore 3 <|
  (bJ3_grow_49 E Q X145)
def bJ3_grow_21 (E : Nat → Value) (Q : Rs → HS → Prop) (X145 : Ct) : Ct :=
  o_istore 4 <|
  o_iload 4 <|
  o_iload 1 <|
  o_icmplt (bJ3_grow_41 E Q X145) <|
  o_iload 2 <|
  o_iload 4 <|
  o_iadd <|
  o_dup <|
  o_istore 3 <|
  o_push (.int 2147483639) <|
  o_isub <|
  o_ifle (bJ3_grow_49 E Q X145) <|
  (bJ3_grow_41 E Q X145)
def bJ3_grow_18 (E : Nat → Value) (Q : Rs → HS → Prop) (X145 : Ct) : Ct :=
  o_iload 2 <|
  o_push (.int 1) <|
  o_ishr <|
  (bJ3_grow_21 E Q X145)
def bJ3_grow_0 (E : Nat → Value) (Q : Rs → HS → Prop) (X145 : Ct) : Ct :=
  o_aload 0 <|
  o_getf [17] 0 <|
  o_alen <|
  o_istore 2 <|
  o_iload 2 <|
  o_push (.int 64) <|
  o_icmpge (bJ3_grow_18 E Q X145) <|
  o_iload 2 <|
  o_push (.int 2) <|
  o_iadd <|
  (bJ3_grow_21 E Q X145)
def wJ3_grow (E : Nat → Value) : Wp := fun av h Q => match av with
  | [a0, a1] => ∀ X145 : Ct, (∀ ls st h, bJ3_grow_145 E Q X145 ls st h → X145 ls st h) → bJ3_grow_0 E Q X145 [a0, a1, jk, jk, jk, jk, jk, jk, jk] [] h
  | _ => False
set_option maxHeartbeats 4000000 in
theorem tJ3_grow_164 {x : CX} {E : Nat → Value} {Q : Rs → HS → Prop} {X145 : Ct} (EN : EX x E) (G : Gd x cJ3_grow "java/util/ArrayDeque" yJ3_grow 9 (Option.none : Option Jvm.ClassFile.FieldType) Q) (hF : x.1.2.2.2.frames = 10 ∧ x.1.2.2.2.locals = 244) (hC : x.2.2.2.2.2 = (fun _ => false)) (hxt : (∀ z ∈ x.2.2.1.2.1.exceptionTable.toList, False)) (h145 : Snd x 145 X145) : Snd x 164 (bJ3_grow_164 E Q X145) := by
  unfold bJ3_grow_164
  exact s_return G dJ3_grow_164
set_option maxHeartbeats 4000000 in
theorem tJ3_grow_145 {x : CX} {E : Nat → Value} {Q : Rs → HS → Prop} {X145 : Ct} (EN : EX x E) (G : Gd x cJ3_grow "java/util/ArrayDeque" yJ3_grow 9 (Option.none : Option Jvm.ClassFile.FieldType) Q) (hF : x.1.2.2.2.frames = 10 ∧ x.1.2.2.2.locals = 244) (hC : x.2.2.2.2.2 = (fun _ => false)) (hxt : (∀ z ∈ x.2.2.1.2.1.exceptionTable.toList, False)) (h145 : Snd x 145 X145) : Snd x 145 (bJ3_grow_145 E Q X145) := by
  unfold bJ3_grow_145
  refine s_iload G.b dJ3_grow_145 ?_
  refine s_iload G.b dJ3_grow_147 ?_
  refine s_icmpge (tgt := 164) G.b dJ3_grow_149 (by decide) (tJ3_grow_164 EN G hF hC hxt h145) ?_
  refine s_aload G.b dJ3_grow_152 ?_
  refine s_iload G.b dJ3_grow_154 ?_
  refine s_null G.b dJ3_grow_156 ?_
  refine s_aast G.b G.kn dJ3_grow_157 ?_
  refine s_iinc (by decide) G.b (by rw [G.nl]; decide) (fun _ _ => by rw [hC]) dJ3_grow_158 ?_
  exact s_goto (tgt := 145) G.b dJ3_grow_161 (by decide) h145
set_option maxHeartbeats 4000000 in
theorem tJ3_grow_96 {x : CX} {E : Nat → Value} {Q : Rs → HS → Prop} {X145 : Ct} (EN : EX x E) (G : Gd x cJ3_grow "java/util/ArrayDeque" yJ3_grow 9 (Option.none : Option Jvm.ClassFile.FieldType) Q) (hF : x.1.2.2.2.frames = 10 ∧ x.1.2.2.2.locals = 244) (hC : x.2.2.2.2.2 = (fun _ => false)) (hxt : (∀ z ∈ x.2.2.1.2.1.exceptionTable.toList, False)) (h145 : Snd x 145 X145) : Snd x 96 (bJ3_grow_96 E Q X145) := by
  unfold bJ3_grow_96
  refine s_iload_n rfl G.b dJ3_grow_96 ?_
  refine s_iload_n rfl G.b dJ3_grow_97 ?_
  refine s_isub G.b dJ3_grow_98 ?_
  refine s_istore G.b (by rw [G.nl]; decide) (fun _ _ => by rw [hC]) dJ3_grow_99 ?_
  refine s_aload G.b dJ3_grow_101 ?_
  refine s_aload_n rfl G.b dJ3_grow_103 ?_
  refine s_getf G.b G.ow G.kn (G.hts _ q218) (fun _ h => h) fa_25 dJ3_grow_104 ?_
  refine s_aload G.b dJ3_grow_107 ?_
  refine s_aload_n rfl G.b dJ3_grow_109 ?_
  refine s_getf G.b G.ow G.kn (G.hts _ q218) (fun _ h => h) fa_25 dJ3_grow_110 ?_
  refine s_iload G.b dJ3_grow_113 ?_
  refine s_iadd G.b dJ3_grow_115 ?_
  refine s_iload_n rfl G.b dJ3_grow_116 ?_
  refine s_aload_n rfl G.b dJ3_grow_117 ?_
  refine s_getf G.b G.ow G.kn (G.hts _ q218) (fun _ h => h) fa_25 dJ3_grow_118 ?_
  refine s_isub G.b dJ3_grow_121 ?_
  refine s_acopy EN G (rm_of hF (Nat.le_of_ble_eq_true rfl) (Nat.le_of_ble_eq_true rfl)) q569 dJ3_grow_122 ?_
  refine s_aload_n rfl G.b dJ3_grow_125 ?_
  refine s_getf G.b G.ow G.kn (G.hts _ q218) (fun _ h => h) fa_25 dJ3_grow_126 ?_
  refine s_istore G.b (by rw [G.nl]; decide) (fun _ _ => by rw [hC]) dJ3_grow_129 ?_
  refine s_aload_n rfl G.b dJ3_grow_131 ?_
  refine s_dup G.b dJ3_grow_132 ?_
  refine s_getf G.b G.ow G.kn (G.hts _ q218) (fun _ h => h) fa_25 dJ3_grow_133 ?_
  refine s_iload G.b dJ3_grow_136 ?_
  refine s_iadd G.b dJ3_grow_138 ?_
  refine s_dup_x1 G.b dJ3_grow_139 ?_
  refine s_putf G.b G.ow G.kn (G.hts _ q218) (fun _ h => h) fa_25 (la_cons (r := (RJ3, TJ3, 3)) G.hts (by decide) rfl q222 (la_nil)) (by decide +kernel) dJ3_grow_140 ?_
  refine s_istore G.b (by rw [G.nl]; decide) (fun _ _ => by rw [hC]) dJ3_grow_143 ?_
  exact h145
set_option maxHeartbeats 4000000 in
theorem tJ3_grow_49 {x : CX} {E : Nat → Value} {Q : Rs → HS → Prop} {X145 : Ct} (EN : EX x E) (G : Gd x cJ3_grow "java/util/ArrayDeque" yJ3_grow 9 (Option.none : Option Jvm.ClassFile.FieldType) Q) (hF : x.1.2.2.2.frames = 10 ∧ x.1.2.2.2.locals = 244) (hC : x.2.2.2.2.2 = (fun _ => false)) (hxt : (∀ z ∈ x.2.2.1.2.1.exceptionTable.toList, False)) (h145 : Snd x 145 X145) : Snd x 49 (bJ3_grow_49 E Q X145) := by
  unfold bJ3_grow_49
  refine s_aload_n rfl G.b dJ3_grow_49 ?_
  refine s_aload_n rfl G.b dJ3_grow_50 ?_
  refine s_getf G.b G.ow G.kn (G.hts _ q217) (fun _ h => h) fa_9 dJ3_grow_51 ?_
  refine s_iload_n rfl G.b dJ3_grow_54 ?_
  refine s_callS G (mJ12_copyOf EN) q568 q430 q94 q431 nmk_53 (rm_of hF (Nat.le_of_ble_eq_true rfl) (Nat.le_of_ble_eq_true rfl)) dJ3_grow_55 ?_ (sx_out G (fun z hz => (hxt z hz).elim))
  refine s_dup_x1 G.b dJ3_grow_58 ?_
  refine s_putf G.b G.ow G.kn (G.hts _ q217) (fun _ h => h) fa_9 (la_cons (r := (RJ3, TJ3, 3)) G.hts (by decide) rfl q220 (la_nil)) (by decide +kernel) dJ3_grow_59 ?_
  refine s_astore G.b (by rw [G.nl]; decide) (fun _ _ => by rw [hC]) dJ3_grow_62 ?_
  refine s_aload_n rfl G.b dJ3_grow_64 ?_
  refine s_getf G.b G.ow G.kn (G.hts _ q219) (fun _ h => h) fa_24 dJ3_grow_65 ?_
  refine s_aload_n rfl G.b dJ3_grow_68 ?_
  refine s_getf G.b G.ow G.kn (G.hts _ q218) (fun _ h => h) fa_25 dJ3_grow_69 ?_
  refine s_icmplt (tgt := 96) G.b dJ3_grow_72 (by decide) (tJ3_grow_96 EN G hF hC hxt h145) ?_
  refine s_aload_n rfl G.b dJ3_grow_75 ?_
  refine s_getf G.b G.ow G.kn (G.hts _ q219) (fun _ h => h) fa_24 dJ3_grow_76 ?_
  refine s_aload_n rfl G.b dJ3_grow_79 ?_
  refine s_getf G.b G.ow G.kn (G.hts _ q218) (fun _ h => h) fa_25 dJ3_grow_80 ?_
  refine s_icmpne (tgt := 164) G.b dJ3_grow_83 (by decide) (tJ3_grow_164 EN G hF hC hxt h145) ?_
  refine s_aload G.b dJ3_grow_86 ?_
  refine s_aload_n rfl G.b dJ3_grow_88 ?_
  refine s_getf G.b G.ow G.kn (G.hts _ q218) (fun _ h => h) fa_25 dJ3_grow_89 ?_
  refine s_aald G.b G.kn dJ3_grow_92 ?_
  refine s_ifnull (tgt := 164) G.b dJ3_grow_93 (by decide) (tJ3_grow_164 EN G hF hC hxt h145) ?_
  exact (tJ3_grow_96 EN G hF hC hxt h145)
set_option maxHeartbeats 4000000 in
theorem tJ3_grow_41 {x : CX} {E : Nat → Value} {Q : Rs → HS → Prop} {X145 : Ct} (EN : EX x E) (G : Gd x cJ3_grow "java/util/ArrayDeque" yJ3_grow 9 (Option.none : Option Jvm.ClassFile.FieldType) Q) (hF : x.1.2.2.2.frames = 10 ∧ x.1.2.2.2.locals = 244) (hC : x.2.2.2.2.2 = (fun _ => false)) (hxt : (∀ z ∈ x.2.2.1.2.1.exceptionTable.toList, False)) (h145 : Snd x 145 X145) : Snd x 41 (bJ3_grow_41 E Q X145) := by
  unfold bJ3_grow_41
  refine s_aload_n rfl G.b dJ3_grow_41 ?_
  refine s_iload_n rfl G.b dJ3_grow_42 ?_
  refine s_iload G.b dJ3_grow_43 ?_
  refine s_callV G (mJ3_newCapacity EN) q563 q565 (sel_cons (r := (RJ3, TJ3, 3)) (by decide) rfl qs6 (sel_nil)) q83 q566 nmk_54 (rm_of hF (Nat.le_of_ble_eq_true rfl) (Nat.le_of_ble_eq_true rfl)) dJ3_grow_45 ?_ (sx_out G (fun z hz => (hxt z hz).elim))
  refine s_istore_n rfl G.b (by rw [G.nl]; decide) (fun _ _ => by rw [hC]) dJ3_grow_48 ?_
  exact (tJ3_grow_49 EN G hF hC hxt h145)
set_option maxHeartbeats 4000000 in
theorem tJ3_grow_21 {x : CX} {E : Nat → Value} {Q : Rs → HS → Prop} {X145 : Ct} (EN : EX x E) (G : Gd x cJ3_grow "java/util/ArrayDeque" yJ3_grow 9 (Option.none : Option Jvm.ClassFile.FieldType) Q) (hF : x.1.2.2.2.frames = 10 ∧ x.1.2.2.2.locals = 244) (hC : x.2.2.2.2.2 = (fun _ => false)) (hxt : (∀ z ∈ x.2.2.1.2.1.exceptionTable.toList, False)) (h145 : Snd x 145 X145) : Snd x 21 (bJ3_grow_21 E Q X145) := by
  unfold bJ3_grow_21
  refine s_istore G.b (by rw [G.nl]; decide) (fun _ _ => by rw [hC]) dJ3_grow_21 ?_
  refine s_iload G.b dJ3_grow_23 ?_
  refine s_iload_n rfl G.b dJ3_grow_25 ?_
  refine s_icmplt (tgt := 41) G.b dJ3_grow_26 (by decide) (tJ3_grow_41 EN G hF hC hxt h145) ?_
  refine s_iload_n rfl G.b dJ3_grow_29 ?_
  refine s_iload G.b dJ3_grow_30 ?_
  refine s_iadd G.b dJ3_grow_32 ?_
  refine s_dup G.b dJ3_grow_33 ?_
  refine s_istore_n rfl G.b (by rw [G.nl]; decide) (fun _ _ => by rw [hC]) dJ3_grow_34 ?_
  refine s_ldcI G.b G.ow G.hts q562 dJ3_grow_35 ?_
  refine s_isub G.b dJ3_grow_37 ?_
  refine s_ifle (tgt := 49) G.b dJ3_grow_38 (by decide) (tJ3_grow_49 EN G hF hC hxt h145) ?_
  exact (tJ3_grow_41 EN G hF hC hxt h145)
set_option maxHeartbeats 4000000 in
theorem tJ3_grow_18 {x : CX} {E : Nat → Value} {Q : Rs → HS → Prop} {X145 : Ct} (EN : EX x E) (G : Gd x cJ3_grow "java/util/ArrayDeque" yJ3_grow 9 (Option.none : Option Jvm.ClassFile.FieldType) Q) (hF : x.1.2.2.2.frames = 10 ∧ x.1.2.2.2.locals = 244) (hC : x.2.2.2.2.2 = (fun _ => false)) (hxt : (∀ z ∈ x.2.2.1.2.1.exceptionTable.toList, False)) (h145 : Snd x 145 X145) : Snd x 18 (bJ3_grow_18 E Q X145) := by
  unfold bJ3_grow_18
  refine s_iload_n rfl G.b dJ3_grow_18 ?_
  refine s_iconst (by decide) G.b dJ3_grow_19 ?_
  refine s_ishr G.b dJ3_grow_20 ?_
  exact (tJ3_grow_21 EN G hF hC hxt h145)
set_option maxHeartbeats 4000000 in
theorem tJ3_grow_0 {x : CX} {E : Nat → Value} {Q : Rs → HS → Prop} {X145 : Ct} (EN : EX x E) (G : Gd x cJ3_grow "java/util/ArrayDeque" yJ3_grow 9 (Option.none : Option Jvm.ClassFile.FieldType) Q) (hF : x.1.2.2.2.frames = 10 ∧ x.1.2.2.2.locals = 244) (hC : x.2.2.2.2.2 = (fun _ => false)) (hxt : (∀ z ∈ x.2.2.1.2.1.exceptionTable.toList, False)) (h145 : Snd x 145 X145) : Snd x 0 (bJ3_grow_0 E Q X145) := by
  unfold bJ3_grow_0
  refine s_aload_n rfl G.b dJ3_grow_0 ?_
  refine s_getf G.b G.ow G.kn (G.hts _ q217) (fun _ h => h) fa_9 dJ3_grow_1 ?_
  refine s_alen G.b G.kn dJ3_grow_4 ?_
  refine s_istore_n rfl G.b (by rw [G.nl]; decide) (fun _ _ => by rw [hC]) dJ3_grow_5 ?_
  refine s_iload_n rfl G.b dJ3_grow_6 ?_
  refine s_bipush (by decide) G.b dJ3_grow_7 ?_
  refine s_icmpge (tgt := 18) G.b dJ3_grow_9 (by decide) (tJ3_grow_18 EN G hF hC hxt h145) ?_
  refine s_iload_n rfl G.b dJ3_grow_12 ?_
  refine s_iconst (by decide) G.b dJ3_grow_13 ?_
  refine s_iadd G.b dJ3_grow_14 ?_
  exact s_goto (tgt := 21) G.b dJ3_grow_15 (by decide) (tJ3_grow_21 EN G hF hC hxt h145)
set_option maxHeartbeats 4000000 in
theorem mJ3_grow {l : Launch} {D : DE} {s0 : State} {E : Nat → Value} (EN : EV l D s0 E) : rMet l D s0 yJ3_grow (ws_ yJ3_grow cJ3_grow 9 (Option.none : Option Jvm.ClassFile.FieldType)) 10 244 (wJ3_grow E) := by
  refine body_met (fun _ => false) EN.kn (fun w h => h) (by decide +kernel) rfl (fun av h Q hw => ?_) ?_
  · unfold wJ3_grow at hw
    split at hw
    · exact Nat.le_of_ble_eq_true rfl
    · exact hw.elim
  · intro p e s m below meth c av h Q hxt G hw
    unfold wJ3_grow at hw
    split at hw
    · exact tJ3_grow_0 EN G ⟨rfl, rfl⟩ rfl hxt (fun _ _ _ h => h) _ _ _ (hw (AW _ 145) (tJ3_grow_145 EN G ⟨rfl, rfl⟩ rfl hxt (fun _ _ _ h => h)))
    · exact hw.elim
/-! java/util/ArrayDeque.inc(II)I (J3_inc) -/
def bJ3_inc_10 (E : Nat → Value) (Q : Rs → HS → Prop) : Ct :=
  o_iload 0 <|
  o_ireturn .int Q
def bJ3_inc_0 (E : Nat → Value) (Q : Rs → HS → Prop) : Ct :=
  o_iinc 0 1 <|
  o_iload 0 <|
  o_iload 1 <|
  o_icmplt (bJ3_inc_10 E Q) <|
  o_push (.int 0) <|
  o_istore 0 <|
  (bJ3_inc_10 E Q)
def wJ3_inc (E : Nat → Value) : Wp := fun av h Q => match av with
  | [a0, a1] => bJ3_inc_0 E Q [a0, a1] [] h
  | _ => False
set_option maxHeartbeats 4000000 in
theorem tJ3_inc_10 {x : CX} {E : Nat → Value} {Q : Rs → HS → Prop} (EN : EX x E) (G : Gd x cJ3_inc "java/util/ArrayDeque" yJ3_inc 2 (Option.some Jvm.ClassFile.FieldType.int) Q) (hF : x.1.2.2.2.frames = 2 ∧ x.1.2.2.2.locals = 64) (hC : x.2.2.2.2.2 = (fun _ => false)) (hxt : (∀ z ∈ x.2.2.1.2.1.exceptionTable.toList, False)) : Snd x 10 (bJ3_inc_10 E Q) := by
  unfold bJ3_inc_10
  refine s_iload_n rfl G.b dJ3_inc_10 ?_
  exact s_ireturn G dJ3_inc_11
set_option maxHeartbeats 4000000 in
theorem tJ3_inc_0 {x : CX} {E : Nat → Value} {Q : Rs → HS → Prop} (EN : EX x E) (G : Gd x cJ3_inc "java/util/ArrayDeque" yJ3_inc 2 (Option.some Jvm.ClassFile.FieldType.int) Q) (hF : x.1.2.2.2.frames = 2 ∧ x.1.2.2.2.locals = 64) (hC : x.2.2.2.2.2 = (fun _ => false)) (hxt : (∀ z ∈ x.2.2.1.2.1.exceptionTable.toList, False)) : Snd x 0 (bJ3_inc_0 E Q) := by
  unfold bJ3_inc_0
  refine s_iinc (by decide) G.b (by rw [G.nl]; decide) (fun _ _ => by rw [hC]) dJ3_inc_0 ?_
  refine s_iload_n rfl G.b dJ3_inc_3 ?_
  refine s_iload_n rfl G.b dJ3_inc_4 ?_
  refine s_icmplt (tgt := 10) G.b dJ3_inc_5 (by decide) (tJ3_inc_10 EN G hF hC hxt) ?_
  refine s_iconst (by decide) G.b dJ3_inc_8 ?_
  refine s_istore_n rfl G.b (by rw [G.nl]; decide) (fun _ _ => by rw [hC]) dJ3_inc_9 ?_
  exact (tJ3_inc_10 EN G hF hC hxt)
set_option maxHeartbeats 4000000 in
theorem mJ3_inc {l : Launch} {D : DE} {s0 : State} {E : Nat → Value} (EN : EV l D s0 E) : rMet l D s0 yJ3_inc (ws_ yJ3_inc cJ3_inc 2 (Option.some Jvm.ClassFile.FieldType.int)) 2 64 (wJ3_inc E) := by
  refine body_met (fun _ => false) EN.kn (fun w h => h) (by decide +kernel) rfl (fun av h Q hw => ?_) ?_
  · unfold wJ3_inc at hw
    split at hw
    · exact Nat.le_of_ble_eq_true rfl
    · exact hw.elim
  · intro p e s m below meth c av h Q hxt G hw
    unfold wJ3_inc at hw
    split at hw
    · exact tJ3_inc_0 EN G ⟨rfl, rfl⟩ rfl hxt _ _ _ hw
    · exact hw.elim
/-! java/util/ArrayDeque.addLast(Ljava/lang/Object;)V (J3_addLast) -/
theorem nmk_55 : nm_ok yJ3_inc 2 := ⟨by decide +kernel, by decide +kernel, by decide +kernel⟩
theorem nmk_56 : nm_ok yJ3_grow 1 := ⟨by decide +kernel, by decide +kernel, by decide +kernel⟩
def bJ3_addLast_50 (E : Nat → Value) (Q : Rs → HS → Prop) : Ct :=
  o_return Q
def bJ3_addLast_12 (E : Nat → Value) (Q : Rs → HS → Prop) : Ct :=
  o_aload 0 <|
  o_getf [17] 0 <|
  o_astore 2 <|
  o_aload 2 <|
  o_aload 0 <|
  o_getf [17] 2 <|
  o_aload 1 <|
  o_aast <|
  o_aload 0 <|
  o_getf [17] 1 <|
  o_aload 0 <|
  o_aload 0 <|
  o_getf [17] 2 <|
  o_aload 2 <|
  o_alen <|
  o_call 2 (wJ3_inc E) (x_out Q) <|
  o_dup_x1 <|
  o_putf [17] 2 .int <|
  o_icmpne (bJ3_addLast_50 E Q) <|
  o_aload 0 <|
  o_push (.int 1) <|
  o_callV [17] 2 (wJ3_grow E) (x_out Q) <|
  (bJ3_addLast_50 E Q)
def bJ3_addLast_0 (E : Nat → Value) (Q : Rs → HS → Prop) : Ct :=
  o_aload 1 <|
  o_ifnonnull (bJ3_addLast_12 E Q) <|
  o_no
def wJ3_addLast (E : Nat → Value) : Wp := fun av h Q => match av with
  | [a0, a1] => bJ3_addLast_0 E Q [a0, a1, jk] [] h
  | _ => False
set_option maxHeartbeats 4000000 in
theorem tJ3_addLast_50 {x : CX} {E : Nat → Value} {Q : Rs → HS → Prop} (EN : EX x E) (G : Gd x cJ3_addLast "java/util/ArrayDeque" yJ3_addLast 3 (Option.none : Option Jvm.ClassFile.FieldType) Q) (hF : x.1.2.2.2.frames = 11 ∧ x.1.2.2.2.locals = 272) (hC : x.2.2.2.2.2 = (fun _ => false)) (hxt : (∀ z ∈ x.2.2.1.2.1.exceptionTable.toList, False)) : Snd x 50 (bJ3_addLast_50 E Q) := by
  unfold bJ3_addLast_50
  exact s_return G dJ3_addLast_50
set_option maxHeartbeats 4000000 in
theorem tJ3_addLast_12 {x : CX} {E : Nat → Value} {Q : Rs → HS → Prop} (EN : EX x E) (G : Gd x cJ3_addLast "java/util/ArrayDeque" yJ3_addLast 3 (Option.none : Option Jvm.ClassFile.FieldType) Q) (hF : x.1.2.2.2.frames = 11 ∧ x.1.2.2.2.locals = 272) (hC : x.2.2.2.2.2 = (fun _ => false)) (hxt : (∀ z ∈ x.2.2.1.2.1.exceptionTable.toList, False)) : Snd x 12 (bJ3_addLast_12 E Q) := by
  unfold bJ3_addLast_12
  refine s_aload_n rfl G.b dJ3_addLast_12 ?_
  refine s_getf G.b G.ow G.kn (G.hts _ q217) (fun _ h => h) fa_9 dJ3_addLast_13 ?_
  refine s_astore_n rfl G.b (by rw [G.nl]; decide) (fun _ _ => by rw [hC]) dJ3_addLast_16 ?_
  refine s_aload_n rfl G.b dJ3_addLast_17 ?_
  refine s_aload_n rfl G.b dJ3_addLast_18 ?_
  refine s_getf G.b G.ow G.kn (G.hts _ q219) (fun _ h => h) fa_24 dJ3_addLast_19 ?_
  refine s_aload_n rfl G.b dJ3_addLast_22 ?_
  refine s_aast G.b G.kn dJ3_addLast_23 ?_
  refine s_aload_n rfl G.b dJ3_addLast_24 ?_
  refine s_getf G.b G.ow G.kn (G.hts _ q218) (fun _ h => h) fa_25 dJ3_addLast_25 ?_
  refine s_aload_n rfl G.b dJ3_addLast_28 ?_
  refine s_aload_n rfl G.b dJ3_addLast_29 ?_
  refine s_getf G.b G.ow G.kn (G.hts _ q219) (fun _ h => h) fa_24 dJ3_addLast_30 ?_
  refine s_aload_n rfl G.b dJ3_addLast_33 ?_
  refine s_alen G.b G.kn dJ3_addLast_34 ?_
  refine s_callS G (mJ3_inc EN) q555 q556 q83 q557 nmk_55 (rm_of hF (Nat.le_of_ble_eq_true rfl) (Nat.le_of_ble_eq_true rfl)) dJ3_addLast_35 ?_ (sx_out G (fun z hz => (hxt z hz).elim))
  refine s_dup_x1 G.b dJ3_addLast_38 ?_
  refine s_putf G.b G.ow G.kn (G.hts _ q219) (fun _ h => h) fa_24 (la_cons (r := (RJ3, TJ3, 3)) G.hts (by decide) rfl q224 (la_nil)) (by decide +kernel) dJ3_addLast_39 ?_
  refine s_icmpne (tgt := 50) G.b dJ3_addLast_42 (by decide) (tJ3_addLast_50 EN G hF hC hxt) ?_
  refine s_aload_n rfl G.b dJ3_addLast_45 ?_
  refine s_iconst (by decide) G.b dJ3_addLast_46 ?_
  refine s_callV G (mJ3_grow EN) q558 q560 (sel_cons (r := (RJ3, TJ3, 3)) (by decide) rfl qs5 (sel_nil)) q83 q561 nmk_56 (rm_of hF (Nat.le_of_ble_eq_true rfl) (Nat.le_of_ble_eq_true rfl)) dJ3_addLast_47 ?_ (sx_out G (fun z hz => (hxt z hz).elim))
  exact (tJ3_addLast_50 EN G hF hC hxt)
set_option maxHeartbeats 4000000 in
theorem tJ3_addLast_0 {x : CX} {E : Nat → Value} {Q : Rs → HS → Prop} (EN : EX x E) (G : Gd x cJ3_addLast "java/util/ArrayDeque" yJ3_addLast 3 (Option.none : Option Jvm.ClassFile.FieldType) Q) (hF : x.1.2.2.2.frames = 11 ∧ x.1.2.2.2.locals = 272) (hC : x.2.2.2.2.2 = (fun _ => false)) (hxt : (∀ z ∈ x.2.2.1.2.1.exceptionTable.toList, False)) : Snd x 0 (bJ3_addLast_0 E Q) := by
  unfold bJ3_addLast_0
  refine s_aload_n rfl G.b dJ3_addLast_0 ?_
  refine s_ifnonnull (tgt := 12) G.b dJ3_addLast_1 (by decide) (tJ3_addLast_12 EN G hF hC hxt) ?_
  exact s_no
set_option maxHeartbeats 4000000 in
theorem mJ3_addLast {l : Launch} {D : DE} {s0 : State} {E : Nat → Value} (EN : EV l D s0 E) : rMet l D s0 yJ3_addLast (ws_ yJ3_addLast cJ3_addLast 3 (Option.none : Option Jvm.ClassFile.FieldType)) 11 272 (wJ3_addLast E) := by
  refine body_met (fun _ => false) EN.kn (fun w h => h) (by decide +kernel) rfl (fun av h Q hw => ?_) ?_
  · unfold wJ3_addLast at hw
    split at hw
    · exact Nat.le_of_ble_eq_true rfl
    · exact hw.elim
  · intro p e s m below meth c av h Q hxt G hw
    unfold wJ3_addLast at hw
    split at hw
    · exact tJ3_addLast_0 EN G ⟨rfl, rfl⟩ rfl hxt _ _ _ hw
    · exact hw.elim
/-! java/util/ArrayDeque.elementAt([Ljava/lang/Object;I)Ljava/lang/Object; (J3_elementAt) -/
def bJ3_elementAt_0 (E : Nat → Value) (Q : Rs → HS → Prop) : Ct :=
  o_aload 0 <|
  o_iload 1 <|
  o_ald [103, 104, 105, 106, 107] <|
  o_areturn Q
def wJ3_elementAt (E : Nat → Value) : Wp := fun av h Q => match av with
  | [a0, a1] => bJ3_elementAt_0 E Q [a0, a1] [] h
  | _ => False
set_option maxHeartbeats 4000000 in
theorem tJ3_elementAt_0 {x : CX} {E : Nat → Value} {Q : Rs → HS → Prop} (EN : EX x E) (G : Gd x cJ3_elementAt "java/util/ArrayDeque" yJ3_elementAt 2 (Option.some (Jvm.ClassFile.FieldType.object "java/lang/Object")) Q) (hF : x.1.2.2.2.frames = 2 ∧ x.1.2.2.2.locals = 64) (hC : x.2.2.2.2.2 = (fun _ => false)) (hxt : (∀ z ∈ x.2.2.1.2.1.exceptionTable.toList, False)) : Snd x 0 (bJ3_elementAt_0 E Q) := by
  unfold bJ3_elementAt_0
  refine s_aload_n rfl G.b dJ3_elementAt_0 ?_
  refine s_iload_n rfl G.b dJ3_elementAt_1 ?_
  refine s_aald G.b G.kn dJ3_elementAt_2 ?_
  exact s_areturn (Or.inl ⟨_, rfl⟩) G dJ3_elementAt_3
set_option maxHeartbeats 4000000 in
theorem mJ3_elementAt {l : Launch} {D : DE} {s0 : State} {E : Nat → Value} (EN : EV l D s0 E) : rMet l D s0 yJ3_elementAt (ws_ yJ3_elementAt cJ3_elementAt 2 (Option.some (Jvm.ClassFile.FieldType.object "java/lang/Object"))) 2 64 (wJ3_elementAt E) := by
  refine body_met (fun _ => false) EN.kn (fun w h => h) (by decide +kernel) rfl (fun av h Q hw => ?_) ?_
  · unfold wJ3_elementAt at hw
    split at hw
    · exact Nat.le_of_ble_eq_true rfl
    · exact hw.elim
  · intro p e s m below meth c av h Q hxt G hw
    unfold wJ3_elementAt at hw
    split at hw
    · exact tJ3_elementAt_0 EN G ⟨rfl, rfl⟩ rfl hxt _ _ _ hw
    · exact hw.elim
/-! java/util/ArrayDeque.pollFirst()Ljava/lang/Object; (J3_pollFirst) -/
theorem nmk_57 : nm_ok yJ3_elementAt 2 := ⟨by decide +kernel, by decide +kernel, by decide +kernel⟩
def bJ3_pollFirst_34 (E : Nat → Value) (Q : Rs → HS → Prop) : Ct :=
  o_aload 3 <|
  o_areturn Q
def bJ3_pollFirst_0 (E : Nat → Value) (Q : Rs → HS → Prop) : Ct :=
  o_aload 0 <|
  o_getf [17] 0 <|
  o_dup <|
  o_astore 1 <|
  o_aload 0 <|
  o_getf [17] 1 <|
  o_dup <|
  o_istore 2 <|
  o_call 2 (wJ3_elementAt E) (x_out Q) <|
  o_astore 3 <|
  o_aload 3 <|
  o_ifnull (bJ3_pollFirst_34 E Q) <|
  o_aload 1 <|
  o_iload 2 <|
  o_push .null <|
  o_aast <|
  o_aload 0 <|
  o_iload 2 <|
  o_aload 1 <|
  o_alen <|
  o_call 2 (wJ3_inc E) (x_out Q) <|
  o_putf [17] 1 .int <|
  (bJ3_pollFirst_34 E Q)
def wJ3_pollFirst (E : Nat → Value) : Wp := fun av h Q => match av with
  | [a0] => bJ3_pollFirst_0 E Q [a0, jk, jk, jk] [] h
  | _ => False
set_option maxHeartbeats 4000000 in
theorem tJ3_pollFirst_34 {x : CX} {E : Nat → Value} {Q : Rs → HS → Prop} (EN : EX x E) (G : Gd x cJ3_pollFirst "java/util/ArrayDeque" yJ3_pollFirst 4 (Option.some (Jvm.ClassFile.FieldType.object "java/lang/Object")) Q) (hF : x.1.2.2.2.frames = 3 ∧ x.1.2.2.2.locals = 85) (hC : x.2.2.2.2.2 = (fun _ => false)) (hxt : (∀ z ∈ x.2.2.1.2.1.exceptionTable.toList, False)) : Snd x 34 (bJ3_pollFirst_34 E Q) := by
  unfold bJ3_pollFirst_34
  refine s_aload_n rfl G.b dJ3_pollFirst_34 ?_
  exact s_areturn (Or.inl ⟨_, rfl⟩) G dJ3_pollFirst_35
set_option maxHeartbeats 4000000 in
theorem tJ3_pollFirst_0 {x : CX} {E : Nat → Value} {Q : Rs → HS → Prop} (EN : EX x E) (G : Gd x cJ3_pollFirst "java/util/ArrayDeque" yJ3_pollFirst 4 (Option.some (Jvm.ClassFile.FieldType.object "java/lang/Object")) Q) (hF : x.1.2.2.2.frames = 3 ∧ x.1.2.2.2.locals = 85) (hC : x.2.2.2.2.2 = (fun _ => false)) (hxt : (∀ z ∈ x.2.2.1.2.1.exceptionTable.toList, False)) : Snd x 0 (bJ3_pollFirst_0 E Q) := by
  unfold bJ3_pollFirst_0
  refine s_aload_n rfl G.b dJ3_pollFirst_0 ?_
  refine s_getf G.b G.ow G.kn (G.hts _ q217) (fun _ h => h) fa_9 dJ3_pollFirst_1 ?_
  refine s_dup G.b dJ3_pollFirst_4 ?_
  refine s_astore_n rfl G.b (by rw [G.nl]; decide) (fun _ _ => by rw [hC]) dJ3_pollFirst_5 ?_
  refine s_aload_n rfl G.b dJ3_pollFirst_6 ?_
  refine s_getf G.b G.ow G.kn (G.hts _ q218) (fun _ h => h) fa_25 dJ3_pollFirst_7 ?_
  refine s_dup G.b dJ3_pollFirst_10 ?_
  refine s_istore_n rfl G.b (by rw [G.nl]; decide) (fun _ _ => by rw [hC]) dJ3_pollFirst_11 ?_
  refine s_callS G (mJ3_elementAt EN) q585 q586 q83 q587 nmk_57 (rm_of hF (Nat.le_of_ble_eq_true rfl) (Nat.le_of_ble_eq_true rfl)) dJ3_pollFirst_12 ?_ (sx_out G (fun z hz => (hxt z hz).elim))
  refine s_astore_n rfl G.b (by rw [G.nl]; decide) (fun _ _ => by rw [hC]) dJ3_pollFirst_15 ?_
  refine s_aload_n rfl G.b dJ3_pollFirst_16 ?_
  refine s_ifnull (tgt := 34) G.b dJ3_pollFirst_17 (by decide) (tJ3_pollFirst_34 EN G hF hC hxt) ?_
  refine s_aload_n rfl G.b dJ3_pollFirst_20 ?_
  refine s_iload_n rfl G.b dJ3_pollFirst_21 ?_
  refine s_null G.b dJ3_pollFirst_22 ?_
  refine s_aast G.b G.kn dJ3_pollFirst_23 ?_
  refine s_aload_n rfl G.b dJ3_pollFirst_24 ?_
  refine s_iload_n rfl G.b dJ3_pollFirst_25 ?_
  refine s_aload_n rfl G.b dJ3_pollFirst_26 ?_
  refine s_alen G.b G.kn dJ3_pollFirst_27 ?_
  refine s_callS G (mJ3_inc EN) q555 q556 q83 q557 nmk_55 (rm_of hF (Nat.le_of_ble_eq_true rfl) (Nat.le_of_ble_eq_true rfl)) dJ3_pollFirst_28 ?_ (sx_out G (fun z hz => (hxt z hz).elim))
  refine s_putf G.b G.ow G.kn (G.hts _ q218) (fun _ h => h) fa_25 (la_cons (r := (RJ3, TJ3, 3)) G.hts (by decide) rfl q222 (la_nil)) (by decide +kernel) dJ3_pollFirst_31 ?_
  exact (tJ3_pollFirst_34 EN G hF hC hxt)
set_option maxHeartbeats 4000000 in
theorem mJ3_pollFirst {l : Launch} {D : DE} {s0 : State} {E : Nat → Value} (EN : EV l D s0 E) : rMet l D s0 yJ3_pollFirst (ws_ yJ3_pollFirst cJ3_pollFirst 4 (Option.some (Jvm.ClassFile.FieldType.object "java/lang/Object"))) 3 85 (wJ3_pollFirst E) := by
  refine body_met (fun _ => false) EN.kn (fun w h => h) (by decide +kernel) rfl (fun av h Q hw => ?_) ?_
  · unfold wJ3_pollFirst at hw
    split at hw
    · exact Nat.le_of_ble_eq_true rfl
    · exact hw.elim
  · intro p e s m below meth c av h Q hxt G hw
    unfold wJ3_pollFirst at hw
    split at hw
    · exact tJ3_pollFirst_0 EN G ⟨rfl, rfl⟩ rfl hxt _ _ _ hw
    · exact hw.elim
/-! java/util/ArrayDeque.removeFirst()Ljava/lang/Object; (J3_removeFirst) -/
theorem nmk_58 : nm_ok yJ3_pollFirst 0 := ⟨by decide +kernel, by decide +kernel, by decide +kernel⟩
def bJ3_removeFirst_17 (E : Nat → Value) (Q : Rs → HS → Prop) : Ct :=
  o_aload 1 <|
  o_areturn Q
def bJ3_removeFirst_0 (E : Nat → Value) (Q : Rs → HS → Prop) : Ct :=
  o_aload 0 <|
  o_callV [17] 1 (wJ3_pollFirst E) (x_out Q) <|
  o_astore 1 <|
  o_aload 1 <|
  o_ifnonnull (bJ3_removeFirst_17 E Q) <|
  o_no
def wJ3_removeFirst (E : Nat → Value) : Wp := fun av h Q => match av with
  | [a0] => bJ3_removeFirst_0 E Q [a0, jk] [] h
  | _ => False
set_option maxHeartbeats 4000000 in
theorem tJ3_removeFirst_17 {x : CX} {E : Nat → Value} {Q : Rs → HS → Prop} (EN : EX x E) (G : Gd x cJ3_removeFirst "java/util/ArrayDeque" yJ3_removeFirst 2 (Option.some (Jvm.ClassFile.FieldType.object "java/lang/Object")) Q) (hF : x.1.2.2.2.frames = 4 ∧ x.1.2.2.2.locals = 108) (hC : x.2.2.2.2.2 = (fun _ => false)) (hxt : (∀ z ∈ x.2.2.1.2.1.exceptionTable.toList, False)) : Snd x 17 (bJ3_removeFirst_17 E Q) := by
  unfold bJ3_removeFirst_17
  refine s_aload_n rfl G.b dJ3_removeFirst_17 ?_
  exact s_areturn (Or.inl ⟨_, rfl⟩) G dJ3_removeFirst_18
set_option maxHeartbeats 4000000 in
theorem tJ3_removeFirst_0 {x : CX} {E : Nat → Value} {Q : Rs → HS → Prop} (EN : EX x E) (G : Gd x cJ3_removeFirst "java/util/ArrayDeque" yJ3_removeFirst 2 (Option.some (Jvm.ClassFile.FieldType.object "java/lang/Object")) Q) (hF : x.1.2.2.2.frames = 4 ∧ x.1.2.2.2.locals = 108) (hC : x.2.2.2.2.2 = (fun _ => false)) (hxt : (∀ z ∈ x.2.2.1.2.1.exceptionTable.toList, False)) : Snd x 0 (bJ3_removeFirst_0 E Q) := by
  unfold bJ3_removeFirst_0
  refine s_aload_n rfl G.b dJ3_removeFirst_0 ?_
  refine s_callV G (mJ3_pollFirst EN) q581 q582 (sel_cons (r := (RJ3, TJ3, 3)) (by decide) rfl q583 (sel_nil)) q83 q584 nmk_58 (rm_of hF (Nat.le_of_ble_eq_true rfl) (Nat.le_of_ble_eq_true rfl)) dJ3_removeFirst_1 ?_ (sx_out G (fun z hz => (hxt z hz).elim))
  refine s_astore_n rfl G.b (by rw [G.nl]; decide) (fun _ _ => by rw [hC]) dJ3_removeFirst_4 ?_
  refine s_aload_n rfl G.b dJ3_removeFirst_5 ?_
  refine s_ifnonnull (tgt := 17) G.b dJ3_removeFirst_6 (by decide) (tJ3_removeFirst_17 EN G hF hC hxt) ?_
  exact s_no
set_option maxHeartbeats 4000000 in
theorem mJ3_removeFirst {l : Launch} {D : DE} {s0 : State} {E : Nat → Value} (EN : EV l D s0 E) : rMet l D s0 yJ3_removeFirst (ws_ yJ3_removeFirst cJ3_removeFirst 2 (Option.some (Jvm.ClassFile.FieldType.object "java/lang/Object"))) 4 108 (wJ3_removeFirst E) := by
  refine body_met (fun _ => false) EN.kn (fun w h => h) (by decide +kernel) rfl (fun av h Q hw => ?_) ?_
  · unfold wJ3_removeFirst at hw
    split at hw
    · exact Nat.le_of_ble_eq_true rfl
    · exact hw.elim
  · intro p e s m below meth c av h Q hxt G hw
    unfold wJ3_removeFirst at hw
    split at hw
    · exact tJ3_removeFirst_0 EN G ⟨rfl, rfl⟩ rfl hxt _ _ _ hw
    · exact hw.elim
/-! ChantRules.changed(LChantRules$Choir;I)I (X0_changed) -/
theorem nmk_59 : nm_ok yJ3_addLast 1 := ⟨by decide +kernel, by decide +kernel, by decide +kernel⟩
theorem nmk_60 : nm_ok yJ3_removeFirst 0 := ⟨by decide +kernel, by decide +kernel, by decide +kernel⟩
def bX0_changed_28 (E : Nat → Value) (Q : Rs → HS → Prop) : Ct :=
  o_iload 2 <|
  o_ireturn .int Q
def bX0_changed_0 (E : Nat → Value) (Q : Rs → HS → Prop) : Ct :=
  o_aload 0 <|
  o_getf [0] 3 <|
  o_aload 1 <|
  o_callV [17] 2 (wJ3_addLast E) (x_out Q) <|
  o_aload 0 <|
  o_getf [0] 3 <|
  o_callV [17] 1 (wJ3_size E) (x_out Q) <|
  o_push (.int 8) <|
  o_icmple (bX0_changed_28 E Q) <|
  o_aload 0 <|
  o_getf [0] 3 <|
  o_callV [17] 1 (wJ3_removeFirst E) (x_out Q) <|
  o_pop <|
  (bX0_changed_28 E Q)
def wX0_changed (E : Nat → Value) : Wp := fun av h Q => match av with
  | [a0, a1, a2] => bX0_changed_0 E Q [a0, a1, a2] [] h
  | _ => False
set_option maxHeartbeats 4000000 in
theorem tX0_changed_28 {x : CX} {E : Nat → Value} {Q : Rs → HS → Prop} (EN : EX x E) (G : Gd x cX0_changed "ChantRules" yX0_changed 3 (Option.some Jvm.ClassFile.FieldType.int) Q) (hF : x.1.2.2.2.frames = 12 ∧ x.1.2.2.2.locals = 294) (hC : x.2.2.2.2.2 = (fun _ => false)) (hxt : (∀ z ∈ x.2.2.1.2.1.exceptionTable.toList, False)) : Snd x 28 (bX0_changed_28 E Q) := by
  unfold bX0_changed_28
  refine s_iload_n rfl G.b dX0_changed_28 ?_
  exact s_ireturn G dX0_changed_29
set_option maxHeartbeats 4000000 in
theorem tX0_changed_0 {x : CX} {E : Nat → Value} {Q : Rs → HS → Prop} (EN : EX x E) (G : Gd x cX0_changed "ChantRules" yX0_changed 3 (Option.some Jvm.ClassFile.FieldType.int) Q) (hF : x.1.2.2.2.frames = 12 ∧ x.1.2.2.2.locals = 294) (hC : x.2.2.2.2.2 = (fun _ => false)) (hxt : (∀ z ∈ x.2.2.1.2.1.exceptionTable.toList, False)) : Snd x 0 (bX0_changed_0 E Q) := by
  unfold bX0_changed_0
  refine s_aload_n rfl G.b dX0_changed_0 ?_
  refine s_getf G.b G.ow G.kn (G.hts _ q302) (fun _ h => h) fa_12 dX0_changed_1 ?_
  refine s_aload_n rfl G.b dX0_changed_4 ?_
  refine s_callV G (mJ3_addLast EN) q551 q552 (sel_cons (r := (RJ3, TJ3, 3)) (by decide) rfl q553 (sel_nil)) q83 q554 nmk_59 (rm_of hF (Nat.le_of_ble_eq_true rfl) (Nat.le_of_ble_eq_true rfl)) dX0_changed_5 ?_ (sx_out G (fun z hz => (hxt z hz).elim))
  refine s_aload_n rfl G.b dX0_changed_8 ?_
  refine s_getf G.b G.ow G.kn (G.hts _ q302) (fun _ h => h) fa_12 dX0_changed_9 ?_
  refine s_callV G (mJ3_size EN) q570 q571 (sel_cons (r := (RJ3, TJ3, 3)) (by decide) rfl q572 (sel_nil)) q83 q573 nmk_23 (rm_of hF (Nat.le_of_ble_eq_true rfl) (Nat.le_of_ble_eq_true rfl)) dX0_changed_12 ?_ (sx_out G (fun z hz => (hxt z hz).elim))
  refine s_bipush (by decide) G.b dX0_changed_15 ?_
  refine s_icmple (tgt := 28) G.b dX0_changed_17 (by decide) (tX0_changed_28 EN G hF hC hxt) ?_
  refine s_aload_n rfl G.b dX0_changed_20 ?_
  refine s_getf G.b G.ow G.kn (G.hts _ q302) (fun _ h => h) fa_12 dX0_changed_21 ?_
  refine s_callV G (mJ3_removeFirst EN) q577 q578 (sel_cons (r := (RJ3, TJ3, 3)) (by decide) rfl q579 (sel_nil)) q83 q580 nmk_60 (rm_of hF (Nat.le_of_ble_eq_true rfl) (Nat.le_of_ble_eq_true rfl)) dX0_changed_24 ?_ (sx_out G (fun z hz => (hxt z hz).elim))
  refine s_pop G.b dX0_changed_27 ?_
  exact (tX0_changed_28 EN G hF hC hxt)
set_option maxHeartbeats 4000000 in
theorem mX0_changed {l : Launch} {D : DE} {s0 : State} {E : Nat → Value} (EN : EV l D s0 E) : rMet l D s0 yX0_changed (ws_ yX0_changed cX0_changed 3 (Option.some Jvm.ClassFile.FieldType.int)) 12 294 (wX0_changed E) := by
  refine body_met (fun _ => false) EN.kn (fun w h => h) (by decide +kernel) rfl (fun av h Q hw => ?_) ?_
  · unfold wX0_changed at hw
    split at hw
    · exact Nat.le_of_ble_eq_true rfl
    · exact hw.elim
  · intro p e s m below meth c av h Q hxt G hw
    unfold wX0_changed at hw
    split at hw
    · exact tX0_changed_0 EN G ⟨rfl, rfl⟩ rfl hxt _ _ _ hw
    · exact hw.elim
/-! ChantRules.isWeight(I)Z (X0_isWeight) -/
def bX0_isWeight_0 (E : Nat → Value) (Q : Rs → HS → Prop) : Ct :=
  o_iload 0 <|
  o_push (.int 0) <|
  o_push (.int 9) <|
  o_call 3 (wX0_isIn E) (x_out Q) <|
  o_ireturn .boolean Q
def wX0_isWeight (E : Nat → Value) : Wp := fun av h Q => match av with
  | [a0] => bX0_isWeight_0 E Q [a0] [] h
  | _ => False
set_option maxHeartbeats 4000000 in
theorem tX0_isWeight_0 {x : CX} {E : Nat → Value} {Q : Rs → HS → Prop} (EN : EX x E) (G : Gd x cX0_isWeight "ChantRules" yX0_isWeight 1 (Option.some Jvm.ClassFile.FieldType.boolean) Q) (hF : x.1.2.2.2.frames = 3 ∧ x.1.2.2.2.locals = 86) (hC : x.2.2.2.2.2 = (fun _ => false)) (hxt : (∀ z ∈ x.2.2.1.2.1.exceptionTable.toList, False)) : Snd x 0 (bX0_isWeight_0 E Q) := by
  unfold bX0_isWeight_0
  refine s_iload_n rfl G.b dX0_isWeight_0 ?_
  refine s_iconst (by decide) G.b dX0_isWeight_1 ?_
  refine s_bipush (by decide) G.b dX0_isWeight_2 ?_
  refine s_callS G (mX0_isIn EN) q339 q340 q76 q341 nmk_50 (rm_of hF (Nat.le_of_ble_eq_true rfl) (Nat.le_of_ble_eq_true rfl)) dX0_isWeight_4 ?_ (sx_out G (fun z hz => (hxt z hz).elim))
  exact s_ireturn G dX0_isWeight_7
set_option maxHeartbeats 4000000 in
theorem mX0_isWeight {l : Launch} {D : DE} {s0 : State} {E : Nat → Value} (EN : EV l D s0 E) : rMet l D s0 yX0_isWeight (ws_ yX0_isWeight cX0_isWeight 1 (Option.some Jvm.ClassFile.FieldType.boolean)) 3 86 (wX0_isWeight E) := by
  refine body_met (fun _ => false) EN.kn (fun w h => h) (by decide +kernel) rfl (fun av h Q hw => ?_) ?_
  · unfold wX0_isWeight at hw
    split at hw
    · exact Nat.le_of_ble_eq_true rfl
    · exact hw.elim
  · intro p e s m below meth c av h Q hxt G hw
    unfold wX0_isWeight at hw
    split at hw
    · exact tX0_isWeight_0 EN G ⟨rfl, rfl⟩ rfl hxt _ _ _ hw
    · exact hw.elim
/-! ChantRules.refused(LChantRules$Refused;)I (X0_refused) -/
theorem fa_35 : fieldAt [9] 6 "ChantRules$Refused" "reason" "I" := fa_cons (r := (RX6, TX6, 8)) rfl (by decide) rfl rfl rfl (fa_nil)
theorem fa_36 : fieldAt [0] 4 "ChantRules" "reason" "I" := fa_cons (r := (RX0, TX0, 10)) rfl (by decide) rfl rfl rfl (fa_nil)
theorem fa_37 : fieldAt [9] 7 "ChantRules$Refused" "detail" "I" := fa_cons (r := (RX6, TX6, 8)) rfl (by decide) rfl rfl rfl (fa_nil)
theorem fa_38 : fieldAt [0] 5 "ChantRules" "detail" "I" := fa_cons (r := (RX0, TX0, 10)) rfl (by decide) rfl rfl rfl (fa_nil)
theorem fa_39 : fieldAt [0] 6 "ChantRules" "behind" "I" := fa_cons (r := (RX0, TX0, 10)) rfl (by decide) rfl rfl rfl (fa_nil)
theorem ct_3y : ∀ c ∈ ([9] : List Nat), (c, "ChantRules$Refused") ∈ ctab := by decide +kernel
theorem ct_3n : ∀ c ∈ ([] : List Nat), (c, "ChantRules$Refused") ∈ ntab ∧ c < 23 := by decide +kernel
theorem ct_4 : ∀ c ∈ [9], (c, "ChantRules$Refused") ∈ ctab := by decide +kernel
theorem fa_40 : fieldAt [0] 7 "ChantRules" "behindDetail" "I" := fa_cons (r := (RX0, TX0, 10)) rfl (by decide) rfl rfl rfl (fa_nil)
def bX0_refused_54 (E : Nat → Value) (Q : Rs → HS → Prop) : Ct :=
  o_push (.int (-14)) <|
  o_ireturn .int Q
def bX0_refused_0 (E : Nat → Value) (Q : Rs → HS → Prop) : Ct :=
  o_aload 0 <|
  o_aload 1 <|
  o_getf [9] 6 <|
  o_putf [0] 4 .int <|
  o_aload 0 <|
  o_aload 1 <|
  o_getf [9] 7 <|
  o_putf [0] 5 .int <|
  o_aload 0 <|
  o_push (.int 0) <|
  o_putf [0] 6 .int <|
  o_aload 1 <|
  o_getCause <|
  o_astore 3 <|
  o_aload 3 <|
  o_inst [9] [] <|
  o_ifeq (bX0_refused_54 E Q) <|
  o_aload 3 <|
  o_cast [9] <|
  o_astore 2 <|
  o_aload 0 <|
  o_aload 2 <|
  o_getf [9] 6 <|
  o_putf [0] 6 .int <|
  o_aload 0 <|
  o_aload 2 <|
  o_getf [9] 7 <|
  o_putf [0] 7 .int <|
  (bX0_refused_54 E Q)
def wX0_refused (E : Nat → Value) : Wp := fun av h Q => match av with
  | [a0, a1] => bX0_refused_0 E Q [a0, a1, jk, jk] [] h
  | _ => False
set_option maxHeartbeats 4000000 in
theorem tX0_refused_54 {x : CX} {E : Nat → Value} {Q : Rs → HS → Prop} (EN : EX x E) (G : Gd x cX0_refused "ChantRules" yX0_refused 4 (Option.some Jvm.ClassFile.FieldType.int) Q) (hF : x.1.2.2.2.frames = 8 ∧ x.1.2.2.2.locals = 200) (hC : x.2.2.2.2.2 = (fun _ => false)) (hxt : (∀ z ∈ x.2.2.1.2.1.exceptionTable.toList, False)) : Snd x 54 (bX0_refused_54 E Q) := by
  unfold bX0_refused_54
  refine s_bipush (by decide) G.b dX0_refused_54 ?_
  exact s_ireturn G dX0_refused_56
set_option maxHeartbeats 4000000 in
theorem tX0_refused_0 {x : CX} {E : Nat → Value} {Q : Rs → HS → Prop} (EN : EX x E) (G : Gd x cX0_refused "ChantRules" yX0_refused 4 (Option.some Jvm.ClassFile.FieldType.int) Q) (hF : x.1.2.2.2.frames = 8 ∧ x.1.2.2.2.locals = 200) (hC : x.2.2.2.2.2 = (fun _ => false)) (hxt : (∀ z ∈ x.2.2.1.2.1.exceptionTable.toList, False)) : Snd x 0 (bX0_refused_0 E Q) := by
  unfold bX0_refused_0
  refine s_aload_n rfl G.b dX0_refused_0 ?_
  refine s_aload_n rfl G.b dX0_refused_1 ?_
  refine s_getfN G.b G.ow G.kn (va_Nw.use rfl (va_Nw.warmF G.warm (EN.nw q527 rfl))) (fun _ h => h) fa_35 dX0_refused_2 ?_
  refine s_putf G.b G.ow G.kn (G.hts _ q303) (fun _ h => h) fa_36 (la_cons (r := (RX0, TX0, 10)) G.hts (by decide) rfl q318 (la_nil)) (by decide +kernel) dX0_refused_5 ?_
  refine s_aload_n rfl G.b dX0_refused_8 ?_
  refine s_aload_n rfl G.b dX0_refused_9 ?_
  refine s_getfN G.b G.ow G.kn (va_Nw.use rfl (va_Nw.warmF G.warm (EN.nw q529 rfl))) (fun _ h => h) fa_37 dX0_refused_10 ?_
  refine s_putf G.b G.ow G.kn (G.hts _ q304) (fun _ h => h) fa_38 (la_cons (r := (RX0, TX0, 10)) G.hts (by decide) rfl q320 (la_nil)) (by decide +kernel) dX0_refused_13 ?_
  refine s_aload_n rfl G.b dX0_refused_16 ?_
  refine s_iconst (by decide) G.b dX0_refused_17 ?_
  refine s_putf G.b G.ow G.kn (G.hts _ q305) (fun _ h => h) fa_39 (la_cons (r := (RX0, TX0, 10)) G.hts (by decide) rfl q322 (la_nil)) (by decide +kernel) dX0_refused_18 ?_
  refine s_aload_n rfl G.b dX0_refused_21 ?_
  refine s_getCause EN G (rm_of hF (Nat.le_of_ble_eq_true rfl) (Nat.le_of_ble_eq_true rfl)) q592 dX0_refused_22 ?_
  refine s_astore_n rfl G.b (by rw [G.nl]; decide) (fun _ _ => by rw [hC]) dX0_refused_25 ?_
  refine s_aload_n rfl G.b dX0_refused_26 ?_
  refine s_inst G.b G.ow G.kn G.hts q335 ct_3y ct_3n dX0_refused_27 ?_
  refine s_ifeq (tgt := 54) G.b dX0_refused_30 (by decide) (tX0_refused_54 EN G hF hC hxt) ?_
  refine s_aload_n rfl G.b dX0_refused_33 ?_
  refine s_cast G.b G.ow G.kn G.hts q335 ct_4 dX0_refused_34 ?_
  refine s_astore_n rfl G.b (by rw [G.nl]; decide) (fun _ _ => by rw [hC]) dX0_refused_37 ?_
  refine s_aload_n rfl G.b dX0_refused_38 ?_
  refine s_aload_n rfl G.b dX0_refused_39 ?_
  refine s_getfN G.b G.ow G.kn (va_Nw.use rfl (va_Nw.warmF G.warm (EN.nw q527 rfl))) (fun _ h => h) fa_35 dX0_refused_40 ?_
  refine s_putf G.b G.ow G.kn (G.hts _ q305) (fun _ h => h) fa_39 (la_cons (r := (RX0, TX0, 10)) G.hts (by decide) rfl q322 (la_nil)) (by decide +kernel) dX0_refused_43 ?_
  refine s_aload_n rfl G.b dX0_refused_46 ?_
  refine s_aload_n rfl G.b dX0_refused_47 ?_
  refine s_getfN G.b G.ow G.kn (va_Nw.use rfl (va_Nw.warmF G.warm (EN.nw q529 rfl))) (fun _ h => h) fa_37 dX0_refused_48 ?_
  refine s_putf G.b G.ow G.kn (G.hts _ q306) (fun _ h => h) fa_40 (la_cons (r := (RX0, TX0, 10)) G.hts (by decide) rfl q324 (la_nil)) (by decide +kernel) dX0_refused_51 ?_
  exact (tX0_refused_54 EN G hF hC hxt)
set_option maxHeartbeats 4000000 in
theorem mX0_refused {l : Launch} {D : DE} {s0 : State} {E : Nat → Value} (EN : EV l D s0 E) : rMet l D s0 yX0_refused (ws_ yX0_refused cX0_refused 4 (Option.some Jvm.ClassFile.FieldType.int)) 8 200 (wX0_refused E) := by
  refine body_met (fun _ => false) EN.kn (fun w h => h) (by decide +kernel) rfl (fun av h Q hw => ?_) ?_
  · unfold wX0_refused at hw
    split at hw
    · exact Nat.le_of_ble_eq_true rfl
    · exact hw.elim
  · intro p e s m below meth c av h Q hxt G hw
    unfold wX0_refused at hw
    split at hw
    · exact tX0_refused_0 EN G ⟨rfl, rfl⟩ rfl hxt _ _ _ hw
    · exact hw.elim
/-! java/util/ArrayList.grow(I)[Ljava/lang/Object; (J2_grow_2) -/
def bJ2_grow_2_45 (E : Nat → Value) (Q : Rs → HS → Prop) : Ct :=
  o_aload 0 <|
  o_push (.int 10) <|
  o_iload 1 <|
  o_imax <|
  o_newa 103 .null <|
  o_dup_x1 <|
  o_putf [15] 1 (.array (.object "java/lang/Object")) <|
  o_areturn Q
def bJ2_grow_2_20 (E : Nat → Value) (Q : Rs → HS → Prop) : Ct :=
  o_iload 2 <|
  o_iload 1 <|
  o_iload 2 <|
  o_isub <|
  o_iload 2 <|
  o_push (.int 1) <|
  o_ishr <|
  o_call 3 (wJ10_newLength E) (x_out Q) <|
  o_istore 3 <|
  o_aload 0 <|
  o_aload 0 <|
  o_getf [15] 1 <|
  o_iload 3 <|
  o_call 2 (wJ12_copyOf E) (x_out Q) <|
  o_dup_x1 <|
  o_putf [15] 1 (.array (.object "java/lang/Object")) <|
  o_areturn Q
def bJ2_grow_2_0 (E : Nat → Value) (Q : Rs → HS → Prop) : Ct :=
  o_aload 0 <|
  o_getf [15] 1 <|
  o_alen <|
  o_istore 2 <|
  o_iload 2 <|
  o_ifgt (bJ2_grow_2_20 E Q) <|
  o_aload 0 <|
  o_getf [15] 1 <|
  o_push (E 14) <|
  o_acmpeq (bJ2_grow_2_45 E Q) <|
  (bJ2_grow_2_20 E Q)
def wJ2_grow_2 (E : Nat → Value) : Wp := fun av h Q => match av with
  | [a0, a1] => bJ2_grow_2_0 E Q [a0, a1, jk, jk] [] h
  | _ => False
set_option maxHeartbeats 4000000 in
theorem tJ2_grow_2_45 {x : CX} {E : Nat → Value} {Q : Rs → HS → Prop} (EN : EX x E) (G : Gd x cJ2_grow_2 "java/util/ArrayList" yJ2_grow_2 4 (Option.some (Jvm.ClassFile.FieldType.array (Jvm.ClassFile.FieldType.object "java/lang/Object"))) Q) (hF : x.1.2.2.2.frames = 10 ∧ x.1.2.2.2.locals = 244) (hC : x.2.2.2.2.2 = (fun _ => false)) (hxt : (∀ z ∈ x.2.2.1.2.1.exceptionTable.toList, False)) : Snd x 45 (bJ2_grow_2_45 E Q) := by
  unfold bJ2_grow_2_45
  refine s_aload_n rfl G.b dJ2_grow_2_45 ?_
  refine s_bipush (by decide) G.b dJ2_grow_2_46 ?_
  refine s_iload_n rfl G.b dJ2_grow_2_48 ?_
  refine s_imax G hF ⟨Nat.le_of_ble_eq_true rfl, Nat.le_of_ble_eq_true rfl⟩ q469 q423 q93 q424 dJ2_grow_2_49 ?_
  refine s_anewa G.b G.ow G.kn G.gr G.hts q154 (va_AO.moved G.warm.alike (EN.ao q155)) (by decide) (by decide) rfl dJ2_grow_2_52 ?_
  refine s_dup_x1 G.b dJ2_grow_2_55 ?_
  refine s_putf G.b G.ow G.kn (G.hts _ q158) (fun _ h => h) fa_1 (la_cons (r := (RJ2, TJ2, 3)) G.hts (by decide) rfl q168 (la_nil)) (by decide +kernel) dJ2_grow_2_56 ?_
  exact s_areturn (Or.inr ⟨_, rfl⟩) G dJ2_grow_2_59
set_option maxHeartbeats 4000000 in
theorem tJ2_grow_2_20 {x : CX} {E : Nat → Value} {Q : Rs → HS → Prop} (EN : EX x E) (G : Gd x cJ2_grow_2 "java/util/ArrayList" yJ2_grow_2 4 (Option.some (Jvm.ClassFile.FieldType.array (Jvm.ClassFile.FieldType.object "java/lang/Object"))) Q) (hF : x.1.2.2.2.frames = 10 ∧ x.1.2.2.2.locals = 244) (hC : x.2.2.2.2.2 = (fun _ => false)) (hxt : (∀ z ∈ x.2.2.1.2.1.exceptionTable.toList, False)) : Snd x 20 (bJ2_grow_2_20 E Q) := by
  unfold bJ2_grow_2_20
  refine s_iload_n rfl G.b dJ2_grow_2_20 ?_
  refine s_iload_n rfl G.b dJ2_grow_2_21 ?_
  refine s_iload_n rfl G.b dJ2_grow_2_22 ?_
  refine s_isub G.b dJ2_grow_2_23 ?_
  refine s_iload_n rfl G.b dJ2_grow_2_24 ?_
  refine s_iconst (by decide) G.b dJ2_grow_2_25 ?_
  refine s_ishr G.b dJ2_grow_2_26 ?_
  refine s_callS G (mJ10_newLength EN) q419 q420 q92 q421 nmk_30 (rm_of hF (Nat.le_of_ble_eq_true rfl) (Nat.le_of_ble_eq_true rfl)) dJ2_grow_2_27 ?_ (sx_out G (fun z hz => (hxt z hz).elim))
  refine s_istore_n rfl G.b (by rw [G.nl]; decide) (fun _ _ => by rw [hC]) dJ2_grow_2_30 ?_
  refine s_aload_n rfl G.b dJ2_grow_2_31 ?_
  refine s_aload_n rfl G.b dJ2_grow_2_32 ?_
  refine s_getf G.b G.ow G.kn (G.hts _ q158) (fun _ h => h) fa_1 dJ2_grow_2_33 ?_
  refine s_iload_n rfl G.b dJ2_grow_2_36 ?_
  refine s_callS G (mJ12_copyOf EN) q429 q430 q94 q431 nmk_53 (rm_of hF (Nat.le_of_ble_eq_true rfl) (Nat.le_of_ble_eq_true rfl)) dJ2_grow_2_37 ?_ (sx_out G (fun z hz => (hxt z hz).elim))
  refine s_dup_x1 G.b dJ2_grow_2_40 ?_
  refine s_putf G.b G.ow G.kn (G.hts _ q158) (fun _ h => h) fa_1 (la_cons (r := (RJ2, TJ2, 3)) G.hts (by decide) rfl q168 (la_nil)) (by decide +kernel) dJ2_grow_2_41 ?_
  exact s_areturn (Or.inr ⟨_, rfl⟩) G dJ2_grow_2_44
set_option maxHeartbeats 4000000 in
theorem tJ2_grow_2_0 {x : CX} {E : Nat → Value} {Q : Rs → HS → Prop} (EN : EX x E) (G : Gd x cJ2_grow_2 "java/util/ArrayList" yJ2_grow_2 4 (Option.some (Jvm.ClassFile.FieldType.array (Jvm.ClassFile.FieldType.object "java/lang/Object"))) Q) (hF : x.1.2.2.2.frames = 10 ∧ x.1.2.2.2.locals = 244) (hC : x.2.2.2.2.2 = (fun _ => false)) (hxt : (∀ z ∈ x.2.2.1.2.1.exceptionTable.toList, False)) : Snd x 0 (bJ2_grow_2_0 E Q) := by
  unfold bJ2_grow_2_0
  refine s_aload_n rfl G.b dJ2_grow_2_0 ?_
  refine s_getf G.b G.ow G.kn (G.hts _ q158) (fun _ h => h) fa_1 dJ2_grow_2_1 ?_
  refine s_alen G.b G.kn dJ2_grow_2_4 ?_
  refine s_istore_n rfl G.b (by rw [G.nl]; decide) (fun _ _ => by rw [hC]) dJ2_grow_2_5 ?_
  refine s_iload_n rfl G.b dJ2_grow_2_6 ?_
  refine s_ifgt (tgt := 20) G.b dJ2_grow_2_7 (by decide) (tJ2_grow_2_20 EN G hF hC hxt) ?_
  refine s_aload_n rfl G.b dJ2_grow_2_10 ?_
  refine s_getf G.b G.ow G.kn (G.hts _ q158) (fun _ h => h) fa_1 dJ2_grow_2_11 ?_
  refine s_getst EN G q417 (i := 14) rfl dJ2_grow_2_14 ?_
  refine s_acmpeq (tgt := 45) G.b dJ2_grow_2_17 (by decide) (tJ2_grow_2_45 EN G hF hC hxt) ?_
  exact (tJ2_grow_2_20 EN G hF hC hxt)
set_option maxHeartbeats 4000000 in
theorem mJ2_grow_2 {l : Launch} {D : DE} {s0 : State} {E : Nat → Value} (EN : EV l D s0 E) : rMet l D s0 yJ2_grow_2 (ws_ yJ2_grow_2 cJ2_grow_2 4 (Option.some (Jvm.ClassFile.FieldType.array (Jvm.ClassFile.FieldType.object "java/lang/Object")))) 10 244 (wJ2_grow_2 E) := by
  refine body_met (fun _ => false) EN.kn (fun w h => h) (by decide +kernel) rfl (fun av h Q hw => ?_) ?_
  · unfold wJ2_grow_2 at hw
    split at hw
    · exact Nat.le_of_ble_eq_true rfl
    · exact hw.elim
  · intro p e s m below meth c av h Q hxt G hw
    unfold wJ2_grow_2 at hw
    split at hw
    · exact tJ2_grow_2_0 EN G ⟨rfl, rfl⟩ rfl hxt _ _ _ hw
    · exact hw.elim
/-! java/util/ArrayList.grow()[Ljava/lang/Object; (J2_grow) -/
theorem nmk_61 : nm_ok yJ2_grow_2 1 := ⟨by decide +kernel, by decide +kernel, by decide +kernel⟩
def bJ2_grow_0 (E : Nat → Value) (Q : Rs → HS → Prop) : Ct :=
  o_aload 0 <|
  o_aload 0 <|
  o_getf [15] 2 <|
  o_push (.int 1) <|
  o_iadd <|
  o_callV [15] 2 (wJ2_grow_2 E) (x_out Q) <|
  o_areturn Q
def wJ2_grow (E : Nat → Value) : Wp := fun av h Q => match av with
  | [a0] => bJ2_grow_0 E Q [a0] [] h
  | _ => False
set_option maxHeartbeats 4000000 in
theorem tJ2_grow_0 {x : CX} {E : Nat → Value} {Q : Rs → HS → Prop} (EN : EX x E) (G : Gd x cJ2_grow "java/util/ArrayList" yJ2_grow 1 (Option.some (Jvm.ClassFile.FieldType.array (Jvm.ClassFile.FieldType.object "java/lang/Object"))) Q) (hF : x.1.2.2.2.frames = 11 ∧ x.1.2.2.2.locals = 267) (hC : x.2.2.2.2.2 = (fun _ => false)) (hxt : (∀ z ∈ x.2.2.1.2.1.exceptionTable.toList, False)) : Snd x 0 (bJ2_grow_0 E Q) := by
  unfold bJ2_grow_0
  refine s_aload_n rfl G.b dJ2_grow_0 ?_
  refine s_aload_n rfl G.b dJ2_grow_1 ?_
  refine s_getf G.b G.ow G.kn (G.hts _ q161) (fun _ h => h) fa_21 dJ2_grow_2 ?_
  refine s_iconst (by decide) G.b dJ2_grow_5 ?_
  refine s_iadd G.b dJ2_grow_6 ?_
  refine s_callV G (mJ2_grow_2 EN) q413 q415 (sel_cons (r := (RJ2, TJ2, 3)) (by decide) rfl qs2 (sel_nil)) q82 q416 nmk_61 (rm_of hF (Nat.le_of_ble_eq_true rfl) (Nat.le_of_ble_eq_true rfl)) dJ2_grow_7 ?_ (sx_out G (fun z hz => (hxt z hz).elim))
  exact s_areturn (Or.inr ⟨_, rfl⟩) G dJ2_grow_10
set_option maxHeartbeats 4000000 in
theorem mJ2_grow {l : Launch} {D : DE} {s0 : State} {E : Nat → Value} (EN : EV l D s0 E) : rMet l D s0 yJ2_grow (ws_ yJ2_grow cJ2_grow 1 (Option.some (Jvm.ClassFile.FieldType.array (Jvm.ClassFile.FieldType.object "java/lang/Object")))) 11 267 (wJ2_grow E) := by
  refine body_met (fun _ => false) EN.kn (fun w h => h) (by decide +kernel) rfl (fun av h Q hw => ?_) ?_
  · unfold wJ2_grow at hw
    split at hw
    · exact Nat.le_of_ble_eq_true rfl
    · exact hw.elim
  · intro p e s m below meth c av h Q hxt G hw
    unfold wJ2_grow at hw
    split at hw
    · exact tJ2_grow_0 EN G ⟨rfl, rfl⟩ rfl hxt _ _ _ hw
    · exact hw.elim
/-! java/util/ArrayList.add(Ljava/lang/Object;[Ljava/lang/Object;I)V (J2_add_2) -/
theorem nmk_62 : nm_ok yJ2_grow 0 := ⟨by decide +kernel, by decide +kernel, by decide +kernel⟩
def bJ2_add_2_11 (E : Nat → Value) (Q : Rs → HS → Prop) : Ct :=
  o_aload 2 <|
  o_iload 3 <|
  o_aload 1 <|
  o_aast <|
  o_aload 0 <|
  o_iload 3 <|
  o_push (.int 1) <|
  o_iadd <|
  o_putf [15] 2 .int <|
  o_return Q
def bJ2_add_2_0 (E : Nat → Value) (Q : Rs → HS → Prop) : Ct :=
  o_iload 3 <|
  o_aload 2 <|
  o_alen <|
  o_icmpne (bJ2_add_2_11 E Q) <|
  o_aload 0 <|
  o_callV [15] 1 (wJ2_grow E) (x_out Q) <|
  o_astore 2 <|
  (bJ2_add_2_11 E Q)
def wJ2_add_2 (E : Nat → Value) : Wp := fun av h Q => match av with
  | [a0, a1, a2, a3] => bJ2_add_2_0 E Q [a0, a1, a2, a3] [] h
  | _ => False
set_option maxHeartbeats 4000000 in
theorem tJ2_add_2_11 {x : CX} {E : Nat → Value} {Q : Rs → HS → Prop} (EN : EX x E) (G : Gd x cJ2_add_2 "java/util/ArrayList" yJ2_add_2 4 (Option.none : Option Jvm.ClassFile.FieldType) Q) (hF : x.1.2.2.2.frames = 12 ∧ x.1.2.2.2.locals = 287) (hC : x.2.2.2.2.2 = (fun _ => false)) (hxt : (∀ z ∈ x.2.2.1.2.1.exceptionTable.toList, False)) : Snd x 11 (bJ2_add_2_11 E Q) := by
  unfold bJ2_add_2_11
  refine s_aload_n rfl G.b dJ2_add_2_11 ?_
  refine s_iload_n rfl G.b dJ2_add_2_12 ?_
  refine s_aload_n rfl G.b dJ2_add_2_13 ?_
  refine s_aast G.b G.kn dJ2_add_2_14 ?_
  refine s_aload_n rfl G.b dJ2_add_2_15 ?_
  refine s_iload_n rfl G.b dJ2_add_2_16 ?_
  refine s_iconst (by decide) G.b dJ2_add_2_17 ?_
  refine s_iadd G.b dJ2_add_2_18 ?_
  refine s_putf G.b G.ow G.kn (G.hts _ q161) (fun _ h => h) fa_21 (la_cons (r := (RJ2, TJ2, 3)) G.hts (by decide) rfl q170 (la_nil)) (by decide +kernel) dJ2_add_2_19 ?_
  exact s_return G dJ2_add_2_22
set_option maxHeartbeats 4000000 in
theorem tJ2_add_2_0 {x : CX} {E : Nat → Value} {Q : Rs → HS → Prop} (EN : EX x E) (G : Gd x cJ2_add_2 "java/util/ArrayList" yJ2_add_2 4 (Option.none : Option Jvm.ClassFile.FieldType) Q) (hF : x.1.2.2.2.frames = 12 ∧ x.1.2.2.2.locals = 287) (hC : x.2.2.2.2.2 = (fun _ => false)) (hxt : (∀ z ∈ x.2.2.1.2.1.exceptionTable.toList, False)) : Snd x 0 (bJ2_add_2_0 E Q) := by
  unfold bJ2_add_2_0
  refine s_iload_n rfl G.b dJ2_add_2_0 ?_
  refine s_aload_n rfl G.b dJ2_add_2_1 ?_
  refine s_alen G.b G.kn dJ2_add_2_2 ?_
  refine s_icmpne (tgt := 11) G.b dJ2_add_2_3 (by decide) (tJ2_add_2_11 EN G hF hC hxt) ?_
  refine s_aload_n rfl G.b dJ2_add_2_6 ?_
  refine s_callV G (mJ2_grow EN) q409 q411 (sel_cons (r := (RJ2, TJ2, 3)) (by decide) rfl qs1 (sel_nil)) q82 q412 nmk_62 (rm_of hF (Nat.le_of_ble_eq_true rfl) (Nat.le_of_ble_eq_true rfl)) dJ2_add_2_7 ?_ (sx_out G (fun z hz => (hxt z hz).elim))
  refine s_astore_n rfl G.b (by rw [G.nl]; decide) (fun _ _ => by rw [hC]) dJ2_add_2_10 ?_
  exact (tJ2_add_2_11 EN G hF hC hxt)
set_option maxHeartbeats 4000000 in
theorem mJ2_add_2 {l : Launch} {D : DE} {s0 : State} {E : Nat → Value} (EN : EV l D s0 E) : rMet l D s0 yJ2_add_2 (ws_ yJ2_add_2 cJ2_add_2 4 (Option.none : Option Jvm.ClassFile.FieldType)) 12 287 (wJ2_add_2 E) := by
  refine body_met (fun _ => false) EN.kn (fun w h => h) (by decide +kernel) rfl (fun av h Q hw => ?_) ?_
  · unfold wJ2_add_2 at hw
    split at hw
    · exact Nat.le_of_ble_eq_true rfl
    · exact hw.elim
  · intro p e s m below meth c av h Q hxt G hw
    unfold wJ2_add_2 at hw
    split at hw
    · exact tJ2_add_2_0 EN G ⟨rfl, rfl⟩ rfl hxt _ _ _ hw
    · exact hw.elim
/-! java/util/ArrayList.add(Ljava/lang/Object;)Z (J2_add) -/
theorem nmk_63 : nm_ok yJ2_add_2 3 := ⟨by decide +kernel, by decide +kernel, by decide +kernel⟩
def bJ2_add_0 (E : Nat → Value) (Q : Rs → HS → Prop) : Ct :=
  o_aload 0 <|
  o_dup <|
  o_getf [14, 15] 0 <|
  o_push (.int 1) <|
  o_iadd <|
  o_putf [14, 15] 0 .int <|
  o_aload 0 <|
  o_aload 1 <|
  o_aload 0 <|
  o_getf [15] 1 <|
  o_aload 0 <|
  o_getf [15] 2 <|
  o_callV [15] 4 (wJ2_add_2 E) (x_out Q) <|
  o_push (.int 1) <|
  o_ireturn .boolean Q
def wJ2_add (E : Nat → Value) : Wp := fun av h Q => match av with
  | [a0, a1] => bJ2_add_0 E Q [a0, a1] [] h
  | _ => False
set_option maxHeartbeats 4000000 in
theorem tJ2_add_0 {x : CX} {E : Nat → Value} {Q : Rs → HS → Prop} (EN : EX x E) (G : Gd x cJ2_add "java/util/ArrayList" yJ2_add 2 (Option.some Jvm.ClassFile.FieldType.boolean) Q) (hF : x.1.2.2.2.frames = 13 ∧ x.1.2.2.2.locals = 310) (hC : x.2.2.2.2.2 = (fun _ => false)) (hxt : (∀ z ∈ x.2.2.1.2.1.exceptionTable.toList, False)) : Snd x 0 (bJ2_add_0 E Q) := by
  unfold bJ2_add_0
  refine s_aload_n rfl G.b dJ2_add_0 ?_
  refine s_dup G.b dJ2_add_1 ?_
  refine s_getf G.b G.ow G.kn (G.hts _ q167) (u_same (G.hts _ q164)) fa_0 dJ2_add_2 ?_
  refine s_iconst (by decide) G.b dJ2_add_5 ?_
  refine s_iadd G.b dJ2_add_6 ?_
  refine s_putf G.b G.ow G.kn (G.hts _ q167) (u_same (G.hts _ q164)) fa_0 (la_cons (r := (RJ19, TJ19, 4)) G.hts (by decide) rfl q1490 (la_cons (r := (RJ2, TJ2, 3)) G.hts (by decide) rfl q172 (la_nil))) (by decide +kernel) dJ2_add_7 ?_
  refine s_aload_n rfl G.b dJ2_add_10 ?_
  refine s_aload_n rfl G.b dJ2_add_11 ?_
  refine s_aload_n rfl G.b dJ2_add_12 ?_
  refine s_getf G.b G.ow G.kn (G.hts _ q158) (fun _ h => h) fa_1 dJ2_add_13 ?_
  refine s_aload_n rfl G.b dJ2_add_16 ?_
  refine s_getf G.b G.ow G.kn (G.hts _ q161) (fun _ h => h) fa_21 dJ2_add_17 ?_
  refine s_callV G (mJ2_add_2 EN) q405 q407 (sel_cons (r := (RJ2, TJ2, 3)) (by decide) rfl qs0 (sel_nil)) q82 q408 nmk_63 (rm_of hF (Nat.le_of_ble_eq_true rfl) (Nat.le_of_ble_eq_true rfl)) dJ2_add_20 ?_ (sx_out G (fun z hz => (hxt z hz).elim))
  refine s_iconst (by decide) G.b dJ2_add_23 ?_
  exact s_ireturn G dJ2_add_24
set_option maxHeartbeats 4000000 in
theorem mJ2_add {l : Launch} {D : DE} {s0 : State} {E : Nat → Value} (EN : EV l D s0 E) : rMet l D s0 yJ2_add (ws_ yJ2_add cJ2_add 2 (Option.some Jvm.ClassFile.FieldType.boolean)) 13 310 (wJ2_add E) := by
  refine body_met (fun _ => false) EN.kn (fun w h => h) (by decide +kernel) rfl (fun av h Q hw => ?_) ?_
  · unfold wJ2_add at hw
    split at hw
    · exact Nat.le_of_ble_eq_true rfl
    · exact hw.elim
  · intro p e s m below meth c av h Q hxt G hw
    unfold wJ2_add at hw
    split at hw
    · exact tJ2_add_0 EN G ⟨rfl, rfl⟩ rfl hxt _ _ _ hw
    · exact hw.elim
/-! ChantRules$Rule.copy()LChantRules$Rule; (X3_copy) -/
theorem nmk_64 : nm_ok yJ2_add 1 := ⟨by decide +kernel, by decide +kernel, by decide +kernel⟩
def bX3_copy_72 (E : Nat → Value) (Q : Rs → HS → Prop) (X16 X49 : Ct) : Ct :=
  o_aload 1 <|
  o_aload 0 <|
  o_getf [2] 2 <|
  o_putf [2] 2 .int <|
  o_aload 1 <|
  o_areturn Q
def bX3_copy_49 (E : Nat → Value) (Q : Rs → HS → Prop) (X16 X49 : Ct) : Ct :=
  o_iload 2 <|
  o_push (.int 5) <|
  o_icmpge (bX3_copy_72 E Q X16 X49) <|
  o_aload 1 <|
  o_getf [2] 1 <|
  o_iload 2 <|
  o_aload 0 <|
  o_getf [2] 1 <|
  o_iload 2 <|
  o_ald [100] <|
  o_ast [(100, .int)] <|
  o_iinc 2 1 <|
  X49
def bX3_copy_47 (E : Nat → Value) (Q : Rs → HS → Prop) (X16 X49 : Ct) : Ct :=
  o_push (.int 0) <|
  o_istore 2 <|
  X49
def bX3_copy_16 (E : Nat → Value) (Q : Rs → HS → Prop) (X16 X49 : Ct) : Ct :=
  o_aload 2 <|
  o_callV [20] 1 (wJ9_hasNext E) (x_out Q) <|
  o_ifeq (bX3_copy_47 E Q X16 X49) <|
  o_aload 2 <|
  o_callV [20] 1 (wJ9_next E) (x_out Q) <|
  o_cast [10, 11] <|
  o_astore 3 <|
  o_aload 1 <|
  o_getf [2] 0 <|
  o_aload 3 <|
  o_callV [15] 2 (wJ2_add E) (x_out Q) <|
  o_pop <|
  X16
def bX3_copy_0 (E : Nat → Value) (Q : Rs → HS → Prop) (X16 X49 : Ct) : Ct :=
  o_new 2 3 [.null, .null, .int 0] <|
  o_dup <|
  o_callI 1 (wX3_init E) (x_out Q) <|
  o_astore 1 <|
  o_aload 0 <|
  o_getf [2] 0 <|
  o_callV [15] 1 (wJ2_iterator E) (x_out Q) <|
  o_astore 2 <|
  X16
def wX3_copy (E : Nat → Value) : Wp := fun av h Q => match av with
  | [a0] => ∀ X16 X49 : Ct, (∀ ls st h, bX3_copy_16 E Q X16 X49 ls st h → X16 ls st h) → (∀ ls st h, bX3_copy_49 E Q X16 X49 ls st h → X49 ls st h) → bX3_copy_0 E Q X16 X49 [a0, jk, jk, jk] [] h
  | _ => False
set_option maxHeartbeats 4000000 in
theorem tX3_copy_72 {x : CX} {E : Nat → Value} {Q : Rs → HS → Prop} {X16 X49 : Ct} (EN : EX x E) (G : Gd x cX3_copy "ChantRules$Rule" yX3_copy 4 (Option.some (Jvm.ClassFile.FieldType.object "ChantRules$Rule")) Q) (hF : x.1.2.2.2.frames = 14 ∧ x.1.2.2.2.locals = 331) (hC : x.2.2.2.2.2 = (fun _ => false)) (hxt : (∀ z ∈ x.2.2.1.2.1.exceptionTable.toList, False)) (h16 : Snd x 16 X16) (h49 : Snd x 49 X49) : Snd x 72 (bX3_copy_72 E Q X16 X49) := by
  unfold bX3_copy_72
  refine s_aload_n rfl G.b dX3_copy_72 ?_
  refine s_aload_n rfl G.b dX3_copy_73 ?_
  refine s_getf G.b G.ow G.kn (G.hts _ q180) (fun _ h => h) fa_4 dX3_copy_74 ?_
  refine s_putf G.b G.ow G.kn (G.hts _ q180) (fun _ h => h) fa_4 (la_cons (r := (RX3, TX3, 3)) G.hts (by decide) rfl q188 (la_nil)) (by decide +kernel) dX3_copy_77 ?_
  refine s_aload_n rfl G.b dX3_copy_80 ?_
  exact s_areturn (Or.inl ⟨_, rfl⟩) G dX3_copy_81
set_option maxHeartbeats 4000000 in
theorem tX3_copy_49 {x : CX} {E : Nat → Value} {Q : Rs → HS → Prop} {X16 X49 : Ct} (EN : EX x E) (G : Gd x cX3_copy "ChantRules$Rule" yX3_copy 4 (Option.some (Jvm.ClassFile.FieldType.object "ChantRules$Rule")) Q) (hF : x.1.2.2.2.frames = 14 ∧ x.1.2.2.2.locals = 331) (hC : x.2.2.2.2.2 = (fun _ => false)) (hxt : (∀ z ∈ x.2.2.1.2.1.exceptionTable.toList, False)) (h16 : Snd x 16 X16) (h49 : Snd x 49 X49) : Snd x 49 (bX3_copy_49 E Q X16 X49) := by
  unfold bX3_copy_49
  refine s_iload_n rfl G.b dX3_copy_49 ?_
  refine s_iconst (by decide) G.b dX3_copy_50 ?_
  refine s_icmpge (tgt := 72) G.b dX3_copy_51 (by decide) (tX3_copy_72 EN G hF hC hxt h16 h49) ?_
  refine s_aload_n rfl G.b dX3_copy_54 ?_
  refine s_getf G.b G.ow G.kn (G.hts _ q179) (fun _ h => h) fa_2 dX3_copy_55 ?_
  refine s_iload_n rfl G.b dX3_copy_58 ?_
  refine s_aload_n rfl G.b dX3_copy_59 ?_
  refine s_getf G.b G.ow G.kn (G.hts _ q179) (fun _ h => h) fa_2 dX3_copy_60 ?_
  refine s_iload_n rfl G.b dX3_copy_63 ?_
  refine s_iald G.b G.kn dX3_copy_64 ?_
  refine s_iast G.b G.kn dX3_copy_65 ?_
  refine s_iinc (by decide) G.b (by rw [G.nl]; decide) (fun _ _ => by rw [hC]) dX3_copy_66 ?_
  exact s_goto (tgt := 49) G.b dX3_copy_69 (by decide) h49
set_option maxHeartbeats 4000000 in
theorem tX3_copy_47 {x : CX} {E : Nat → Value} {Q : Rs → HS → Prop} {X16 X49 : Ct} (EN : EX x E) (G : Gd x cX3_copy "ChantRules$Rule" yX3_copy 4 (Option.some (Jvm.ClassFile.FieldType.object "ChantRules$Rule")) Q) (hF : x.1.2.2.2.frames = 14 ∧ x.1.2.2.2.locals = 331) (hC : x.2.2.2.2.2 = (fun _ => false)) (hxt : (∀ z ∈ x.2.2.1.2.1.exceptionTable.toList, False)) (h16 : Snd x 16 X16) (h49 : Snd x 49 X49) : Snd x 47 (bX3_copy_47 E Q X16 X49) := by
  unfold bX3_copy_47
  refine s_iconst (by decide) G.b dX3_copy_47 ?_
  refine s_istore_n rfl G.b (by rw [G.nl]; decide) (fun _ _ => by rw [hC]) dX3_copy_48 ?_
  exact h49
set_option maxHeartbeats 4000000 in
theorem tX3_copy_16 {x : CX} {E : Nat → Value} {Q : Rs → HS → Prop} {X16 X49 : Ct} (EN : EX x E) (G : Gd x cX3_copy "ChantRules$Rule" yX3_copy 4 (Option.some (Jvm.ClassFile.FieldType.object "ChantRules$Rule")) Q) (hF : x.1.2.2.2.frames = 14 ∧ x.1.2.2.2.locals = 331) (hC : x.2.2.2.2.2 = (fun _ => false)) (hxt : (∀ z ∈ x.2.2.1.2.1.exceptionTable.toList, False)) (h16 : Snd x 16 X16) (h49 : Snd x 49 X49) : Snd x 16 (bX3_copy_16 E Q X16 X49) := by
  unfold bX3_copy_16
  refine s_aload_n rfl G.b dX3_copy_16 ?_
  refine s_callF (r0 := (RJ9, TJ9, 4)) (w := ⟨"java/util/Iterator", "hasNext", "()Z"⟩) (by decide) rfl G (mJ9_hasNext EN) q378 (va_Fw.moved (by decide +kernel) G.warm.alike ⟨(EN.nw q380 rfl), (EN.nw q379 rfl), (EN.nw q385 rfl), (EN.nw q383 rfl), (EN.nw q381 rfl)⟩) q382 q384 q91 q386 nmk_15 (rm_of hF (Nat.le_of_ble_eq_true rfl) (Nat.le_of_ble_eq_true rfl)) dX3_copy_17 ?_ (sx_out G (fun z hz => (hxt z hz).elim))
  refine s_ifeq (tgt := 47) G.b dX3_copy_22 (by decide) (tX3_copy_47 EN G hF hC hxt h16 h49) ?_
  refine s_aload_n rfl G.b dX3_copy_25 ?_
  refine s_callF (r0 := (RJ9, TJ9, 4)) (w := ⟨"java/util/Iterator", "next", "()Ljava/lang/Object;"⟩) (by decide) rfl G (mJ9_next EN) q388 (va_Fw.moved (by decide +kernel) G.warm.alike ⟨(EN.nw q390 rfl), (EN.nw q389 rfl), (EN.nw q394 rfl), (EN.nw q392 rfl), (EN.nw q381 rfl)⟩) q391 q393 q91 q395 nmk_16 (rm_of hF (Nat.le_of_ble_eq_true rfl) (Nat.le_of_ble_eq_true rfl)) dX3_copy_26 ?_ (sx_out G (fun z hz => (hxt z hz).elim))
  refine s_cast G.b G.ow G.kn G.hts q400 ct_1 dX3_copy_31 ?_
  refine s_astore_n rfl G.b (by rw [G.nl]; decide) (fun _ _ => by rw [hC]) dX3_copy_34 ?_
  refine s_aload_n rfl G.b dX3_copy_35 ?_
  refine s_getf G.b G.ow G.kn (G.hts _ q175) (fun _ h => h) fa_3 dX3_copy_36 ?_
  refine s_aload_n rfl G.b dX3_copy_39 ?_
  refine s_callV G (mJ2_add EN) q401 q402 (sel_cons (r := (RJ2, TJ2, 3)) (by decide) rfl q403 (sel_nil)) q82 q404 nmk_64 (rm_of hF (Nat.le_of_ble_eq_true rfl) (Nat.le_of_ble_eq_true rfl)) dX3_copy_40 ?_ (sx_out G (fun z hz => (hxt z hz).elim))
  refine s_pop G.b dX3_copy_43 ?_
  exact s_goto (tgt := 16) G.b dX3_copy_44 (by decide) h16
set_option maxHeartbeats 4000000 in
theorem tX3_copy_0 {x : CX} {E : Nat → Value} {Q : Rs → HS → Prop} {X16 X49 : Ct} (EN : EX x E) (G : Gd x cX3_copy "ChantRules$Rule" yX3_copy 4 (Option.some (Jvm.ClassFile.FieldType.object "ChantRules$Rule")) Q) (hF : x.1.2.2.2.frames = 14 ∧ x.1.2.2.2.locals = 331) (hC : x.2.2.2.2.2 = (fun _ => false)) (hxt : (∀ z ∈ x.2.2.1.2.1.exceptionTable.toList, False)) (h16 : Snd x 16 X16) (h49 : Snd x 49 X49) : Snd x 0 (bX3_copy_0 E Q X16 X49) := by
  unfold bX3_copy_0
  refine s_new (C := RX3) (T0 := TX3) (N := 3) G.b G.ow G.kn G.gr G.hts rfl (by decide) in_X3 q352 q134 q79 tyX3 tyX3_ok rfl dX3_copy_0 ?_
  refine s_dup G.b dX3_copy_3 ?_
  refine s_callI G (mX3_init EN) rfl q353 q136 q79 q137 nmk_4 (rm_of hF (Nat.le_of_ble_eq_true rfl) (Nat.le_of_ble_eq_true rfl)) dX3_copy_4 ?_ (sx_out G (fun z hz => (hxt z hz).elim))
  refine s_astore_n rfl G.b (by rw [G.nl]; decide) (fun _ _ => by rw [hC]) dX3_copy_7 ?_
  refine s_aload_n rfl G.b dX3_copy_8 ?_
  refine s_getf G.b G.ow G.kn (G.hts _ q175) (fun _ h => h) fa_3 dX3_copy_9 ?_
  refine s_callV G (mJ2_iterator EN) q354 q355 (sel_cons (r := (RJ2, TJ2, 3)) (by decide) rfl q356 (sel_nil)) q82 q357 nmk_18 (rm_of hF (Nat.le_of_ble_eq_true rfl) (Nat.le_of_ble_eq_true rfl)) dX3_copy_12 ?_ (sx_out G (fun z hz => (hxt z hz).elim))
  refine s_astore_n rfl G.b (by rw [G.nl]; decide) (fun _ _ => by rw [hC]) dX3_copy_15 ?_
  exact h16
set_option maxHeartbeats 4000000 in
theorem mX3_copy {l : Launch} {D : DE} {s0 : State} {E : Nat → Value} (EN : EV l D s0 E) : rMet l D s0 yX3_copy (ws_ yX3_copy cX3_copy 4 (Option.some (Jvm.ClassFile.FieldType.object "ChantRules$Rule"))) 14 331 (wX3_copy E) := by
  refine body_met (fun _ => false) EN.kn (fun w h => h) (by decide +kernel) rfl (fun av h Q hw => ?_) ?_
  · unfold wX3_copy at hw
    split at hw
    · exact Nat.le_of_ble_eq_true rfl
    · exact hw.elim
  · intro p e s m below meth c av h Q hxt G hw
    unfold wX3_copy at hw
    split at hw
    · exact tX3_copy_0 EN G ⟨rfl, rfl⟩ rfl hxt (fun _ _ _ h => h) (fun _ _ _ h => h) _ _ _ (hw (AW _ 16) (AW _ 49) (tX3_copy_16 EN G ⟨rfl, rfl⟩ rfl hxt (fun _ _ _ h => h) (fun _ _ _ h => h)) (tX3_copy_49 EN G ⟨rfl, rfl⟩ rfl hxt (fun _ _ _ h => h) (fun _ _ _ h => h)))
    · exact hw.elim
/-! ChantRules$Choir.copy()LChantRules$Choir; (X1_copy) -/
theorem nmk_65 : nm_ok yX3_copy 0 := ⟨by decide +kernel, by decide +kernel, by decide +kernel⟩
def bX1_copy_36 (E : Nat → Value) (Q : Rs → HS → Prop) (X10 : Ct) : Ct :=
  o_aload 1 <|
  o_aload 0 <|
  o_getf [1] 1 <|
  o_putf [1] 1 .int <|
  o_aload 1 <|
  o_aload 0 <|
  o_getf [1] 2 <|
  o_putf [1] 2 .int <|
  o_aload 1 <|
  o_aload 0 <|
  o_getf [1] 3 <|
  o_putf [1] 3 .int <|
  o_aload 1 <|
  o_areturn Q
def bX1_copy_10 (E : Nat → Value) (Q : Rs → HS → Prop) (X10 : Ct) : Ct :=
  o_iload 2 <|
  o_push (.int 2) <|
  o_icmpge (bX1_copy_36 E Q X10) <|
  o_aload 1 <|
  o_getf [1] 0 <|
  o_iload 2 <|
  o_aload 0 <|
  o_getf [1] 0 <|
  o_iload 2 <|
  o_ald [103, 104, 105, 106, 107] <|
  o_callV [2] 1 (wX3_copy E) (x_out Q) <|
  o_aast <|
  o_iinc 2 1 <|
  X10
def bX1_copy_0 (E : Nat → Value) (Q : Rs → HS → Prop) (X10 : Ct) : Ct :=
  o_new 1 4 [.null, .int 0, .int 0, .int 0] <|
  o_dup <|
  o_callI 1 (wX1_init E) (x_out Q) <|
  o_astore 1 <|
  o_push (.int 0) <|
  o_istore 2 <|
  X10
def wX1_copy (E : Nat → Value) : Wp := fun av h Q => match av with
  | [a0] => ∀ X10 : Ct, (∀ ls st h, bX1_copy_10 E Q X10 ls st h → X10 ls st h) → bX1_copy_0 E Q X10 [a0, jk, jk] [] h
  | _ => False
set_option maxHeartbeats 4000000 in
theorem tX1_copy_36 {x : CX} {E : Nat → Value} {Q : Rs → HS → Prop} {X10 : Ct} (EN : EX x E) (G : Gd x cX1_copy "ChantRules$Choir" yX1_copy 3 (Option.some (Jvm.ClassFile.FieldType.object "ChantRules$Choir")) Q) (hF : x.1.2.2.2.frames = 15 ∧ x.1.2.2.2.locals = 354) (hC : x.2.2.2.2.2 = (fun _ => false)) (hxt : (∀ z ∈ x.2.2.1.2.1.exceptionTable.toList, False)) (h10 : Snd x 10 X10) : Snd x 36 (bX1_copy_36 E Q X10) := by
  unfold bX1_copy_36
  refine s_aload_n rfl G.b dX1_copy_36 ?_
  refine s_aload_n rfl G.b dX1_copy_37 ?_
  refine s_getf G.b G.ow G.kn (G.hts _ q195) (fun _ h => h) fa_28 dX1_copy_38 ?_
  refine s_putf G.b G.ow G.kn (G.hts _ q195) (fun _ h => h) fa_28 (la_cons (r := (RX1, TX1, 4)) G.hts (by decide) rfl q203 (la_nil)) (by decide +kernel) dX1_copy_41 ?_
  refine s_aload_n rfl G.b dX1_copy_44 ?_
  refine s_aload_n rfl G.b dX1_copy_45 ?_
  refine s_getf G.b G.ow G.kn (G.hts _ q197) (fun _ h => h) fa_27 dX1_copy_46 ?_
  refine s_putf G.b G.ow G.kn (G.hts _ q197) (fun _ h => h) fa_27 (la_cons (r := (RX1, TX1, 4)) G.hts (by decide) rfl q205 (la_nil)) (by decide +kernel) dX1_copy_49 ?_
  refine s_aload_n rfl G.b dX1_copy_52 ?_
  refine s_aload_n rfl G.b dX1_copy_53 ?_
  refine s_getf G.b G.ow G.kn (G.hts _ q199) (fun _ h => h) fa_26 dX1_copy_54 ?_
  refine s_putf G.b G.ow G.kn (G.hts _ q199) (fun _ h => h) fa_26 (la_cons (r := (RX1, TX1, 4)) G.hts (by decide) rfl q207 (la_nil)) (by decide +kernel) dX1_copy_57 ?_
  refine s_aload_n rfl G.b dX1_copy_60 ?_
  exact s_areturn (Or.inl ⟨_, rfl⟩) G dX1_copy_61
set_option maxHeartbeats 4000000 in
theorem tX1_copy_10 {x : CX} {E : Nat → Value} {Q : Rs → HS → Prop} {X10 : Ct} (EN : EX x E) (G : Gd x cX1_copy "ChantRules$Choir" yX1_copy 3 (Option.some (Jvm.ClassFile.FieldType.object "ChantRules$Choir")) Q) (hF : x.1.2.2.2.frames = 15 ∧ x.1.2.2.2.locals = 354) (hC : x.2.2.2.2.2 = (fun _ => false)) (hxt : (∀ z ∈ x.2.2.1.2.1.exceptionTable.toList, False)) (h10 : Snd x 10 X10) : Snd x 10 (bX1_copy_10 E Q X10) := by
  unfold bX1_copy_10
  refine s_iload_n rfl G.b dX1_copy_10 ?_
  refine s_iconst (by decide) G.b dX1_copy_11 ?_
  refine s_icmpge (tgt := 36) G.b dX1_copy_12 (by decide) (tX1_copy_36 EN G hF hC hxt h10) ?_
  refine s_aload_n rfl G.b dX1_copy_15 ?_
  refine s_getf G.b G.ow G.kn (G.hts _ q192) (fun _ h => h) fa_5 dX1_copy_16 ?_
  refine s_iload_n rfl G.b dX1_copy_19 ?_
  refine s_aload_n rfl G.b dX1_copy_20 ?_
  refine s_getf G.b G.ow G.kn (G.hts _ q192) (fun _ h => h) fa_5 dX1_copy_21 ?_
  refine s_iload_n rfl G.b dX1_copy_24 ?_
  refine s_aald G.b G.kn dX1_copy_25 ?_
  refine s_callV G (mX3_copy EN) q348 q349 (sel_cons (r := (RX3, TX3, 3)) (by decide) rfl q350 (sel_nil)) q79 q351 nmk_65 (rm_of hF (Nat.le_of_ble_eq_true rfl) (Nat.le_of_ble_eq_true rfl)) dX1_copy_26 ?_ (sx_out G (fun z hz => (hxt z hz).elim))
  refine s_aast G.b G.kn dX1_copy_29 ?_
  refine s_iinc (by decide) G.b (by rw [G.nl]; decide) (fun _ _ => by rw [hC]) dX1_copy_30 ?_
  exact s_goto (tgt := 10) G.b dX1_copy_33 (by decide) h10
set_option maxHeartbeats 4000000 in
theorem tX1_copy_0 {x : CX} {E : Nat → Value} {Q : Rs → HS → Prop} {X10 : Ct} (EN : EX x E) (G : Gd x cX1_copy "ChantRules$Choir" yX1_copy 3 (Option.some (Jvm.ClassFile.FieldType.object "ChantRules$Choir")) Q) (hF : x.1.2.2.2.frames = 15 ∧ x.1.2.2.2.locals = 354) (hC : x.2.2.2.2.2 = (fun _ => false)) (hxt : (∀ z ∈ x.2.2.1.2.1.exceptionTable.toList, False)) (h10 : Snd x 10 X10) : Snd x 0 (bX1_copy_0 E Q X10) := by
  unfold bX1_copy_0
  refine s_new (C := RX1) (T0 := TX1) (N := 4) G.b G.ow G.kn G.gr G.hts rfl (by decide) in_X1 q346 q127 q77 tyX1 tyX1_ok rfl dX1_copy_0 ?_
  refine s_dup G.b dX1_copy_3 ?_
  refine s_callI G (mX1_init EN) rfl q347 q129 q77 q130 nmk_9 (rm_of hF (Nat.le_of_ble_eq_true rfl) (Nat.le_of_ble_eq_true rfl)) dX1_copy_4 ?_ (sx_out G (fun z hz => (hxt z hz).elim))
  refine s_astore_n rfl G.b (by rw [G.nl]; decide) (fun _ _ => by rw [hC]) dX1_copy_7 ?_
  refine s_iconst (by decide) G.b dX1_copy_8 ?_
  refine s_istore_n rfl G.b (by rw [G.nl]; decide) (fun _ _ => by rw [hC]) dX1_copy_9 ?_
  exact h10
set_option maxHeartbeats 4000000 in
theorem mX1_copy {l : Launch} {D : DE} {s0 : State} {E : Nat → Value} (EN : EV l D s0 E) : rMet l D s0 yX1_copy (ws_ yX1_copy cX1_copy 3 (Option.some (Jvm.ClassFile.FieldType.object "ChantRules$Choir"))) 15 354 (wX1_copy E) := by
  refine body_met (fun _ => false) EN.kn (fun w h => h) (by decide +kernel) rfl (fun av h Q hw => ?_) ?_
  · unfold wX1_copy at hw
    split at hw
    · exact Nat.le_of_ble_eq_true rfl
    · exact hw.elim
  · intro p e s m below meth c av h Q hxt G hw
    unfold wX1_copy at hw
    split at hw
    · exact tX1_copy_0 EN G ⟨rfl, rfl⟩ rfl hxt (fun _ _ _ h => h) _ _ _ (hw (AW _ 10) (tX1_copy_10 EN G ⟨rfl, rfl⟩ rfl hxt (fun _ _ _ h => h)))
    · exact hw.elim
/-! ChantRules.isRule(I)Z (X0_isRule) -/
def bX0_isRule_0 (E : Nat → Value) (Q : Rs → HS → Prop) : Ct :=
  o_iload 0 <|
  o_push (.int 0) <|
  o_push (.int 1) <|
  o_call 3 (wX0_isIn E) (x_out Q) <|
  o_ireturn .boolean Q
def wX0_isRule (E : Nat → Value) : Wp := fun av h Q => match av with
  | [a0] => bX0_isRule_0 E Q [a0] [] h
  | _ => False
set_option maxHeartbeats 4000000 in
theorem tX0_isRule_0 {x : CX} {E : Nat → Value} {Q : Rs → HS → Prop} (EN : EX x E) (G : Gd x cX0_isRule "ChantRules" yX0_isRule 1 (Option.some Jvm.ClassFile.FieldType.boolean) Q) (hF : x.1.2.2.2.frames = 3 ∧ x.1.2.2.2.locals = 86) (hC : x.2.2.2.2.2 = (fun _ => false)) (hxt : (∀ z ∈ x.2.2.1.2.1.exceptionTable.toList, False)) : Snd x 0 (bX0_isRule_0 E Q) := by
  unfold bX0_isRule_0
  refine s_iload_n rfl G.b dX0_isRule_0 ?_
  refine s_iconst (by decide) G.b dX0_isRule_1 ?_
  refine s_iconst (by decide) G.b dX0_isRule_2 ?_
  refine s_callS G (mX0_isIn EN) q339 q340 q76 q341 nmk_50 (rm_of hF (Nat.le_of_ble_eq_true rfl) (Nat.le_of_ble_eq_true rfl)) dX0_isRule_3 ?_ (sx_out G (fun z hz => (hxt z hz).elim))
  exact s_ireturn G dX0_isRule_6
set_option maxHeartbeats 4000000 in
theorem mX0_isRule {l : Launch} {D : DE} {s0 : State} {E : Nat → Value} (EN : EV l D s0 E) : rMet l D s0 yX0_isRule (ws_ yX0_isRule cX0_isRule 1 (Option.some Jvm.ClassFile.FieldType.boolean)) 3 86 (wX0_isRule E) := by
  refine body_met (fun _ => false) EN.kn (fun w h => h) (by decide +kernel) rfl (fun av h Q hw => ?_) ?_
  · unfold wX0_isRule at hw
    split at hw
    · exact Nat.le_of_ble_eq_true rfl
    · exact hw.elim
  · intro p e s m below meth c av h Q hxt G hw
    unfold wX0_isRule at hw
    split at hw
    · exact tX0_isRule_0 EN G ⟨rfl, rfl⟩ rfl hxt _ _ _ hw
    · exact hw.elim
/-! ChantRules$Rule.isState(I)Z (X3_isState) -/
def bX3_isState_0 (E : Nat → Value) (Q : Rs → HS → Prop) : Ct :=
  o_iload 1 <|
  o_push (.int 0) <|
  o_aload 0 <|
  o_getf [2] 2 <|
  o_push (.int 1) <|
  o_isub <|
  o_call 3 (wX0_isIn E) (x_out Q) <|
  o_ireturn .boolean Q
def wX3_isState (E : Nat → Value) : Wp := fun av h Q => match av with
  | [a0, a1] => bX3_isState_0 E Q [a0, a1] [] h
  | _ => False
set_option maxHeartbeats 4000000 in
theorem tX3_isState_0 {x : CX} {E : Nat → Value} {Q : Rs → HS → Prop} (EN : EX x E) (G : Gd x cX3_isState "ChantRules$Rule" yX3_isState 2 (Option.some Jvm.ClassFile.FieldType.boolean) Q) (hF : x.1.2.2.2.frames = 3 ∧ x.1.2.2.2.locals = 86) (hC : x.2.2.2.2.2 = (fun _ => false)) (hxt : (∀ z ∈ x.2.2.1.2.1.exceptionTable.toList, False)) : Snd x 0 (bX3_isState_0 E Q) := by
  unfold bX3_isState_0
  refine s_iload_n rfl G.b dX3_isState_0 ?_
  refine s_iconst (by decide) G.b dX3_isState_1 ?_
  refine s_aload_n rfl G.b dX3_isState_2 ?_
  refine s_getf G.b G.ow G.kn (G.hts _ q180) (fun _ h => h) fa_4 dX3_isState_3 ?_
  refine s_iconst (by decide) G.b dX3_isState_6 ?_
  refine s_isub G.b dX3_isState_7 ?_
  refine s_callSN G (mX0_isIn EN) (va_Nw.use rfl (va_Nw.warmM G.warm (EN.nw q611 rfl))) q340 q76 q341 nmk_50 (rm_of hF (Nat.le_of_ble_eq_true rfl) (Nat.le_of_ble_eq_true rfl)) dX3_isState_8 ?_ (sx_out G (fun z hz => (hxt z hz).elim))
  exact s_ireturn G dX3_isState_11
set_option maxHeartbeats 4000000 in
theorem mX3_isState {l : Launch} {D : DE} {s0 : State} {E : Nat → Value} (EN : EV l D s0 E) : rMet l D s0 yX3_isState (ws_ yX3_isState cX3_isState 2 (Option.some Jvm.ClassFile.FieldType.boolean)) 3 86 (wX3_isState E) := by
  refine body_met (fun _ => false) EN.kn (fun w h => h) (by decide +kernel) rfl (fun av h Q hw => ?_) ?_
  · unfold wX3_isState at hw
    split at hw
    · exact Nat.le_of_ble_eq_true rfl
    · exact hw.elim
  · intro p e s m below meth c av h Q hxt G hw
    unfold wX3_isState at hw
    split at hw
    · exact tX3_isState_0 EN G ⟨rfl, rfl⟩ rfl hxt _ _ _ hw
    · exact hw.elim
/-! ChantRules$Choir.isState(II)Z (X1_isState) -/
theorem nmk_66 : nm_ok yX0_isRule 1 := ⟨by decide +kernel, by decide +kernel, by decide +kernel⟩
theorem nmk_67 : nm_ok yX3_isState 1 := ⟨by decide +kernel, by decide +kernel, by decide +kernel⟩
def bX1_isState_25 (E : Nat → Value) (Q : Rs → HS → Prop) : Ct :=
  o_ireturn .boolean Q
def bX1_isState_24 (E : Nat → Value) (Q : Rs → HS → Prop) : Ct :=
  o_push (.int 0) <|
  (bX1_isState_25 E Q)
def bX1_isState_0 (E : Nat → Value) (Q : Rs → HS → Prop) : Ct :=
  o_iload 1 <|
  o_call 1 (wX0_isRule E) (x_out Q) <|
  o_ifeq (bX1_isState_24 E Q) <|
  o_aload 0 <|
  o_getf [1] 0 <|
  o_iload 1 <|
  o_ald [103, 104, 105, 106, 107] <|
  o_iload 2 <|
  o_callV [2] 2 (wX3_isState E) (x_out Q) <|
  o_ifeq (bX1_isState_24 E Q) <|
  o_push (.int 1) <|
  (bX1_isState_25 E Q)
def wX1_isState (E : Nat → Value) : Wp := fun av h Q => match av with
  | [a0, a1, a2] => bX1_isState_0 E Q [a0, a1, a2] [] h
  | _ => False
set_option maxHeartbeats 4000000 in
theorem tX1_isState_25 {x : CX} {E : Nat → Value} {Q : Rs → HS → Prop} (EN : EX x E) (G : Gd x cX1_isState "ChantRules$Choir" yX1_isState 3 (Option.some Jvm.ClassFile.FieldType.boolean) Q) (hF : x.1.2.2.2.frames = 4 ∧ x.1.2.2.2.locals = 107) (hC : x.2.2.2.2.2 = (fun _ => false)) (hxt : (∀ z ∈ x.2.2.1.2.1.exceptionTable.toList, False)) : Snd x 25 (bX1_isState_25 E Q) := by
  unfold bX1_isState_25
  exact s_ireturn G dX1_isState_25
set_option maxHeartbeats 4000000 in
theorem tX1_isState_24 {x : CX} {E : Nat → Value} {Q : Rs → HS → Prop} (EN : EX x E) (G : Gd x cX1_isState "ChantRules$Choir" yX1_isState 3 (Option.some Jvm.ClassFile.FieldType.boolean) Q) (hF : x.1.2.2.2.frames = 4 ∧ x.1.2.2.2.locals = 107) (hC : x.2.2.2.2.2 = (fun _ => false)) (hxt : (∀ z ∈ x.2.2.1.2.1.exceptionTable.toList, False)) : Snd x 24 (bX1_isState_24 E Q) := by
  unfold bX1_isState_24
  refine s_iconst (by decide) G.b dX1_isState_24 ?_
  exact (tX1_isState_25 EN G hF hC hxt)
set_option maxHeartbeats 4000000 in
theorem tX1_isState_0 {x : CX} {E : Nat → Value} {Q : Rs → HS → Prop} (EN : EX x E) (G : Gd x cX1_isState "ChantRules$Choir" yX1_isState 3 (Option.some Jvm.ClassFile.FieldType.boolean) Q) (hF : x.1.2.2.2.frames = 4 ∧ x.1.2.2.2.locals = 107) (hC : x.2.2.2.2.2 = (fun _ => false)) (hxt : (∀ z ∈ x.2.2.1.2.1.exceptionTable.toList, False)) : Snd x 0 (bX1_isState_0 E Q) := by
  unfold bX1_isState_0
  refine s_iload_n rfl G.b dX1_isState_0 ?_
  refine s_callSN G (mX0_isRule EN) (va_Nw.use rfl (va_Nw.warmM G.warm (EN.nw q606 rfl))) q337 q76 q338 nmk_66 (rm_of hF (Nat.le_of_ble_eq_true rfl) (Nat.le_of_ble_eq_true rfl)) dX1_isState_1 ?_ (sx_out G (fun z hz => (hxt z hz).elim))
  refine s_ifeq (tgt := 24) G.b dX1_isState_4 (by decide) (tX1_isState_24 EN G hF hC hxt) ?_
  refine s_aload_n rfl G.b dX1_isState_7 ?_
  refine s_getf G.b G.ow G.kn (G.hts _ q192) (fun _ h => h) fa_5 dX1_isState_8 ?_
  refine s_iload_n rfl G.b dX1_isState_11 ?_
  refine s_aald G.b G.kn dX1_isState_12 ?_
  refine s_iload_n rfl G.b dX1_isState_13 ?_
  refine s_callV G (mX3_isState EN) q607 q608 (sel_cons (r := (RX3, TX3, 3)) (by decide) rfl q609 (sel_nil)) q79 q610 nmk_67 (rm_of hF (Nat.le_of_ble_eq_true rfl) (Nat.le_of_ble_eq_true rfl)) dX1_isState_14 ?_ (sx_out G (fun z hz => (hxt z hz).elim))
  refine s_ifeq (tgt := 24) G.b dX1_isState_17 (by decide) (tX1_isState_24 EN G hF hC hxt) ?_
  refine s_iconst (by decide) G.b dX1_isState_20 ?_
  exact s_goto (tgt := 25) G.b dX1_isState_21 (by decide) (tX1_isState_25 EN G hF hC hxt)
set_option maxHeartbeats 4000000 in
theorem mX1_isState {l : Launch} {D : DE} {s0 : State} {E : Nat → Value} (EN : EV l D s0 E) : rMet l D s0 yX1_isState (ws_ yX1_isState cX1_isState 3 (Option.some Jvm.ClassFile.FieldType.boolean)) 4 107 (wX1_isState E) := by
  refine body_met (fun _ => false) EN.kn (fun w h => h) (by decide +kernel) rfl (fun av h Q hw => ?_) ?_
  · unfold wX1_isState at hw
    split at hw
    · exact Nat.le_of_ble_eq_true rfl
    · exact hw.elim
  · intro p e s m below meth c av h Q hxt G hw
    unfold wX1_isState at hw
    split at hw
    · exact tX1_isState_0 EN G ⟨rfl, rfl⟩ rfl hxt _ _ _ hw
    · exact hw.elim
/-! ChantRules$Breathed.from()I (X7_from) -/
def bX7_from_0 (E : Nat → Value) (Q : Rs → HS → Prop) : Ct :=
  o_aload 0 <|
  o_getf [10] 0 <|
  o_ireturn .int Q
def wX7_from (E : Nat → Value) : Wp := fun av h Q => match av with
  | [a0] => bX7_from_0 E Q [a0] [] h
  | _ => False
set_option maxHeartbeats 4000000 in
theorem tX7_from_0 {x : CX} {E : Nat → Value} {Q : Rs → HS → Prop} (EN : EX x E) (G : Gd x cX7_from "ChantRules$Breathed" yX7_from 1 (Option.some Jvm.ClassFile.FieldType.int) Q) (hF : x.1.2.2.2.frames = 2 ∧ x.1.2.2.2.locals = 64) (hC : x.2.2.2.2.2 = (fun _ => false)) (hxt : (∀ z ∈ x.2.2.1.2.1.exceptionTable.toList, False)) : Snd x 0 (bX7_from_0 E Q) := by
  unfold bX7_from_0
  refine s_aload_n rfl G.b dX7_from_0 ?_
  refine s_getf G.b G.ow G.kn (G.hts _ q639) (fun _ h => h) fa_29 dX7_from_1 ?_
  exact s_ireturn G dX7_from_4
set_option maxHeartbeats 4000000 in
theorem mX7_from {l : Launch} {D : DE} {s0 : State} {E : Nat → Value} (EN : EV l D s0 E) : rMet l D s0 yX7_from (ws_ yX7_from cX7_from 1 (Option.some Jvm.ClassFile.FieldType.int)) 2 64 (wX7_from E) := by
  refine body_met (fun _ => false) EN.kn (fun w h => h) (by decide +kernel) rfl (fun av h Q hw => ?_) ?_
  · unfold wX7_from at hw
    split at hw
    · exact Nat.le_of_ble_eq_true rfl
    · exact hw.elim
  · intro p e s m below meth c av h Q hxt G hw
    unfold wX7_from at hw
    split at hw
    · exact tX7_from_0 EN G ⟨rfl, rfl⟩ rfl hxt _ _ _ hw
    · exact hw.elim
/-! ChantRules$Breathed.sings()I (X7_sings) -/
def bX7_sings_0 (E : Nat → Value) (Q : Rs → HS → Prop) : Ct :=
  o_aload 0 <|
  o_getf [10] 2 <|
  o_ireturn .int Q
def wX7_sings (E : Nat → Value) : Wp := fun av h Q => match av with
  | [a0] => bX7_sings_0 E Q [a0] [] h
  | _ => False
set_option maxHeartbeats 4000000 in
theorem tX7_sings_0 {x : CX} {E : Nat → Value} {Q : Rs → HS → Prop} (EN : EX x E) (G : Gd x cX7_sings "ChantRules$Breathed" yX7_sings 1 (Option.some Jvm.ClassFile.FieldType.int) Q) (hF : x.1.2.2.2.frames = 2 ∧ x.1.2.2.2.locals = 64) (hC : x.2.2.2.2.2 = (fun _ => false)) (hxt : (∀ z ∈ x.2.2.1.2.1.exceptionTable.toList, False)) : Snd x 0 (bX7_sings_0 E Q) := by
  unfold bX7_sings_0
  refine s_aload_n rfl G.b dX7_sings_0 ?_
  refine s_getf G.b G.ow G.kn (G.hts _ q643) (fun _ h => h) fa_31 dX7_sings_1 ?_
  exact s_ireturn G dX7_sings_4
set_option maxHeartbeats 4000000 in
theorem mX7_sings {l : Launch} {D : DE} {s0 : State} {E : Nat → Value} (EN : EV l D s0 E) : rMet l D s0 yX7_sings (ws_ yX7_sings cX7_sings 1 (Option.some Jvm.ClassFile.FieldType.int)) 2 64 (wX7_sings E) := by
  refine body_met (fun _ => false) EN.kn (fun w h => h) (by decide +kernel) rfl (fun av h Q hw => ?_) ?_
  · unfold wX7_sings at hw
    split at hw
    · exact Nat.le_of_ble_eq_true rfl
    · exact hw.elim
  · intro p e s m below meth c av h Q hxt G hw
    unfold wX7_sings at hw
    split at hw
    · exact tX7_sings_0 EN G ⟨rfl, rfl⟩ rfl hxt _ _ _ hw
    · exact hw.elim
/-! ChantRules$Breathed.to()I (X7_to) -/
def bX7_to_0 (E : Nat → Value) (Q : Rs → HS → Prop) : Ct :=
  o_aload 0 <|
  o_getf [10] 1 <|
  o_ireturn .int Q
def wX7_to (E : Nat → Value) : Wp := fun av h Q => match av with
  | [a0] => bX7_to_0 E Q [a0] [] h
  | _ => False
set_option maxHeartbeats 4000000 in
theorem tX7_to_0 {x : CX} {E : Nat → Value} {Q : Rs → HS → Prop} (EN : EX x E) (G : Gd x cX7_to "ChantRules$Breathed" yX7_to 1 (Option.some Jvm.ClassFile.FieldType.int) Q) (hF : x.1.2.2.2.frames = 2 ∧ x.1.2.2.2.locals = 64) (hC : x.2.2.2.2.2 = (fun _ => false)) (hxt : (∀ z ∈ x.2.2.1.2.1.exceptionTable.toList, False)) : Snd x 0 (bX7_to_0 E Q) := by
  unfold bX7_to_0
  refine s_aload_n rfl G.b dX7_to_0 ?_
  refine s_getf G.b G.ow G.kn (G.hts _ q641) (fun _ h => h) fa_30 dX7_to_1 ?_
  exact s_ireturn G dX7_to_4
set_option maxHeartbeats 4000000 in
theorem mX7_to {l : Launch} {D : DE} {s0 : State} {E : Nat → Value} (EN : EV l D s0 E) : rMet l D s0 yX7_to (ws_ yX7_to cX7_to 1 (Option.some Jvm.ClassFile.FieldType.int)) 2 64 (wX7_to E) := by
  refine body_met (fun _ => false) EN.kn (fun w h => h) (by decide +kernel) rfl (fun av h Q hw => ?_) ?_
  · unfold wX7_to at hw
    split at hw
    · exact Nat.le_of_ble_eq_true rfl
    · exact hw.elim
  · intro p e s m below meth c av h Q hxt G hw
    unfold wX7_to at hw
    split at hw
    · exact tX7_to_0 EN G ⟨rfl, rfl⟩ rfl hxt _ _ _ hw
    · exact hw.elim
/-! ChantRules$Heard.from()I (X8_from) -/
def bX8_from_0 (E : Nat → Value) (Q : Rs → HS → Prop) : Ct :=
  o_aload 0 <|
  o_getf [11] 0 <|
  o_ireturn .int Q
def wX8_from (E : Nat → Value) : Wp := fun av h Q => match av with
  | [a0] => bX8_from_0 E Q [a0] [] h
  | _ => False
set_option maxHeartbeats 4000000 in
theorem tX8_from_0 {x : CX} {E : Nat → Value} {Q : Rs → HS → Prop} (EN : EX x E) (G : Gd x cX8_from "ChantRules$Heard" yX8_from 1 (Option.some Jvm.ClassFile.FieldType.int) Q) (hF : x.1.2.2.2.frames = 2 ∧ x.1.2.2.2.locals = 64) (hC : x.2.2.2.2.2 = (fun _ => false)) (hxt : (∀ z ∈ x.2.2.1.2.1.exceptionTable.toList, False)) : Snd x 0 (bX8_from_0 E Q) := by
  unfold bX8_from_0
  refine s_aload_n rfl G.b dX8_from_0 ?_
  refine s_getf G.b G.ow G.kn (G.hts _ q662) (fun _ h => h) fa_32 dX8_from_1 ?_
  exact s_ireturn G dX8_from_4
set_option maxHeartbeats 4000000 in
theorem mX8_from {l : Launch} {D : DE} {s0 : State} {E : Nat → Value} (EN : EV l D s0 E) : rMet l D s0 yX8_from (ws_ yX8_from cX8_from 1 (Option.some Jvm.ClassFile.FieldType.int)) 2 64 (wX8_from E) := by
  refine body_met (fun _ => false) EN.kn (fun w h => h) (by decide +kernel) rfl (fun av h Q hw => ?_) ?_
  · unfold wX8_from at hw
    split at hw
    · exact Nat.le_of_ble_eq_true rfl
    · exact hw.elim
  · intro p e s m below meth c av h Q hxt G hw
    unfold wX8_from at hw
    split at hw
    · exact tX8_from_0 EN G ⟨rfl, rfl⟩ rfl hxt _ _ _ hw
    · exact hw.elim
/-! ChantRules$Heard.sings()I (X8_sings) -/
def bX8_sings_0 (E : Nat → Value) (Q : Rs → HS → Prop) : Ct :=
  o_aload 0 <|
  o_getf [11] 3 <|
  o_ireturn .int Q
def wX8_sings (E : Nat → Value) : Wp := fun av h Q => match av with
  | [a0] => bX8_sings_0 E Q [a0] [] h
  | _ => False
set_option maxHeartbeats 4000000 in
theorem tX8_sings_0 {x : CX} {E : Nat → Value} {Q : Rs → HS → Prop} (EN : EX x E) (G : Gd x cX8_sings "ChantRules$Heard" yX8_sings 1 (Option.some Jvm.ClassFile.FieldType.int) Q) (hF : x.1.2.2.2.frames = 2 ∧ x.1.2.2.2.locals = 64) (hC : x.2.2.2.2.2 = (fun _ => false)) (hxt : (∀ z ∈ x.2.2.1.2.1.exceptionTable.toList, False)) : Snd x 0 (bX8_sings_0 E Q) := by
  unfold bX8_sings_0
  refine s_aload_n rfl G.b dX8_sings_0 ?_
  refine s_getf G.b G.ow G.kn (G.hts _ q667) (fun _ h => h) fa_34 dX8_sings_1 ?_
  exact s_ireturn G dX8_sings_4
set_option maxHeartbeats 4000000 in
theorem mX8_sings {l : Launch} {D : DE} {s0 : State} {E : Nat → Value} (EN : EV l D s0 E) : rMet l D s0 yX8_sings (ws_ yX8_sings cX8_sings 1 (Option.some Jvm.ClassFile.FieldType.int)) 2 64 (wX8_sings E) := by
  refine body_met (fun _ => false) EN.kn (fun w h => h) (by decide +kernel) rfl (fun av h Q hw => ?_) ?_
  · unfold wX8_sings at hw
    split at hw
    · exact Nat.le_of_ble_eq_true rfl
    · exact hw.elim
  · intro p e s m below meth c av h Q hxt G hw
    unfold wX8_sings at hw
    split at hw
    · exact tX8_sings_0 EN G ⟨rfl, rfl⟩ rfl hxt _ _ _ hw
    · exact hw.elim
/-! ChantRules$Heard.to()I (X8_to) -/
def bX8_to_0 (E : Nat → Value) (Q : Rs → HS → Prop) : Ct :=
  o_aload 0 <|
  o_getf [11] 1 <|
  o_ireturn .int Q
def wX8_to (E : Nat → Value) : Wp := fun av h Q => match av with
  | [a0] => bX8_to_0 E Q [a0] [] h
  | _ => False
set_option maxHeartbeats 4000000 in
theorem tX8_to_0 {x : CX} {E : Nat → Value} {Q : Rs → HS → Prop} (EN : EX x E) (G : Gd x cX8_to "ChantRules$Heard" yX8_to 1 (Option.some Jvm.ClassFile.FieldType.int) Q) (hF : x.1.2.2.2.frames = 2 ∧ x.1.2.2.2.locals = 64) (hC : x.2.2.2.2.2 = (fun _ => false)) (hxt : (∀ z ∈ x.2.2.1.2.1.exceptionTable.toList, False)) : Snd x 0 (bX8_to_0 E Q) := by
  unfold bX8_to_0
  refine s_aload_n rfl G.b dX8_to_0 ?_
  refine s_getf G.b G.ow G.kn (G.hts _ q663) (fun _ h => h) fa_33 dX8_to_1 ?_
  exact s_ireturn G dX8_to_4
set_option maxHeartbeats 4000000 in
theorem mX8_to {l : Launch} {D : DE} {s0 : State} {E : Nat → Value} (EN : EV l D s0 E) : rMet l D s0 yX8_to (ws_ yX8_to cX8_to 1 (Option.some Jvm.ClassFile.FieldType.int)) 2 64 (wX8_to E) := by
  refine body_met (fun _ => false) EN.kn (fun w h => h) (by decide +kernel) rfl (fun av h Q hw => ?_) ?_
  · unfold wX8_to at hw
    split at hw
    · exact Nat.le_of_ble_eq_true rfl
    · exact hw.elim
  · intro p e s m below meth c av h Q hxt G hw
    unfold wX8_to at hw
    split at hw
    · exact tX8_to_0 EN G ⟨rfl, rfl⟩ rfl hxt _ _ _ hw
    · exact hw.elim
/-! ChantRules.areAlike(LChantRules$Arc;LChantRules$Arc;)Z (X0_areAlike) -/
theorem nmk_68 : nm_ok ⟨"ChantRules$Arc", "sings", "()I"⟩ 0 := ⟨by decide +kernel, by decide +kernel, by decide +kernel⟩
theorem nmk_69 : nm_ok ⟨"ChantRules$Arc", "to", "()I"⟩ 0 := ⟨by decide +kernel, by decide +kernel, by decide +kernel⟩
theorem nmk_70 : nm_ok ⟨"ChantRules$Arc", "from", "()I"⟩ 0 := ⟨by decide +kernel, by decide +kernel, by decide +kernel⟩
def bX0_areAlike_65 (E : Nat → Value) (Q : Rs → HS → Prop) : Ct :=
  o_ireturn .boolean Q
def bX0_areAlike_64 (E : Nat → Value) (Q : Rs → HS → Prop) : Ct :=
  o_push (.int 0) <|
  (bX0_areAlike_65 E Q)
def bX0_areAlike_57 (E : Nat → Value) (Q : Rs → HS → Prop) : Ct :=
  o_icmpne (bX0_areAlike_64 E Q) <|
  o_push (.int 1) <|
  (bX0_areAlike_65 E Q)
def bX0_areAlike_51 (E : Nat → Value) (Q : Rs → HS → Prop) : Ct :=
  o_aload 1 <|
  o_vsel 1 [10] (o_callV [10] 1 (wX7_sings E) (x_out Q) (bX0_areAlike_57 E Q)) (o_callV [11] 1 (wX8_sings E) (x_out Q) (bX0_areAlike_57 E Q))
def bX0_areAlike_42 (E : Nat → Value) (Q : Rs → HS → Prop) : Ct :=
  o_icmpne (bX0_areAlike_64 E Q) <|
  o_aload 0 <|
  o_vsel 1 [10] (o_callV [10] 1 (wX7_sings E) (x_out Q) (bX0_areAlike_51 E Q)) (o_callV [11] 1 (wX8_sings E) (x_out Q) (bX0_areAlike_51 E Q))
def bX0_areAlike_36 (E : Nat → Value) (Q : Rs → HS → Prop) : Ct :=
  o_aload 1 <|
  o_vsel 1 [10] (o_callV [10] 1 (wX7_hears E) (x_out Q) (bX0_areAlike_42 E Q)) (o_callV [11] 1 (wX8_hears E) (x_out Q) (bX0_areAlike_42 E Q))
def bX0_areAlike_27 (E : Nat → Value) (Q : Rs → HS → Prop) : Ct :=
  o_icmpne (bX0_areAlike_64 E Q) <|
  o_aload 0 <|
  o_vsel 1 [10] (o_callV [10] 1 (wX7_hears E) (x_out Q) (bX0_areAlike_36 E Q)) (o_callV [11] 1 (wX8_hears E) (x_out Q) (bX0_areAlike_36 E Q))
def bX0_areAlike_21 (E : Nat → Value) (Q : Rs → HS → Prop) : Ct :=
  o_aload 1 <|
  o_vsel 1 [10] (o_callV [10] 1 (wX7_to E) (x_out Q) (bX0_areAlike_27 E Q)) (o_callV [11] 1 (wX8_to E) (x_out Q) (bX0_areAlike_27 E Q))
def bX0_areAlike_12 (E : Nat → Value) (Q : Rs → HS → Prop) : Ct :=
  o_icmpne (bX0_areAlike_64 E Q) <|
  o_aload 0 <|
  o_vsel 1 [10] (o_callV [10] 1 (wX7_to E) (x_out Q) (bX0_areAlike_21 E Q)) (o_callV [11] 1 (wX8_to E) (x_out Q) (bX0_areAlike_21 E Q))
def bX0_areAlike_6 (E : Nat → Value) (Q : Rs → HS → Prop) : Ct :=
  o_aload 1 <|
  o_vsel 1 [10] (o_callV [10] 1 (wX7_from E) (x_out Q) (bX0_areAlike_12 E Q)) (o_callV [11] 1 (wX8_from E) (x_out Q) (bX0_areAlike_12 E Q))
def bX0_areAlike_0 (E : Nat → Value) (Q : Rs → HS → Prop) : Ct :=
  o_aload 0 <|
  o_vsel 1 [10] (o_callV [10] 1 (wX7_from E) (x_out Q) (bX0_areAlike_6 E Q)) (o_callV [11] 1 (wX8_from E) (x_out Q) (bX0_areAlike_6 E Q))
def wX0_areAlike (E : Nat → Value) : Wp := fun av h Q => match av with
  | [a0, a1] => bX0_areAlike_0 E Q [a0, a1] [] h
  | _ => False
set_option maxHeartbeats 4000000 in
theorem tX0_areAlike_65 {x : CX} {E : Nat → Value} {Q : Rs → HS → Prop} (EN : EX x E) (G : Gd x cX0_areAlike "ChantRules" yX0_areAlike 2 (Option.some Jvm.ClassFile.FieldType.boolean) Q) (hF : x.1.2.2.2.frames = 3 ∧ x.1.2.2.2.locals = 84) (hC : x.2.2.2.2.2 = (fun _ => false)) (hxt : (∀ z ∈ x.2.2.1.2.1.exceptionTable.toList, False)) : Snd x 65 (bX0_areAlike_65 E Q) := by
  unfold bX0_areAlike_65
  exact s_ireturn G dX0_areAlike_65
set_option maxHeartbeats 4000000 in
theorem tX0_areAlike_64 {x : CX} {E : Nat → Value} {Q : Rs → HS → Prop} (EN : EX x E) (G : Gd x cX0_areAlike "ChantRules" yX0_areAlike 2 (Option.some Jvm.ClassFile.FieldType.boolean) Q) (hF : x.1.2.2.2.frames = 3 ∧ x.1.2.2.2.locals = 84) (hC : x.2.2.2.2.2 = (fun _ => false)) (hxt : (∀ z ∈ x.2.2.1.2.1.exceptionTable.toList, False)) : Snd x 64 (bX0_areAlike_64 E Q) := by
  unfold bX0_areAlike_64
  refine s_iconst (by decide) G.b dX0_areAlike_64 ?_
  exact (tX0_areAlike_65 EN G hF hC hxt)
set_option maxHeartbeats 4000000 in
theorem tX0_areAlike_57 {x : CX} {E : Nat → Value} {Q : Rs → HS → Prop} (EN : EX x E) (G : Gd x cX0_areAlike "ChantRules" yX0_areAlike 2 (Option.some Jvm.ClassFile.FieldType.boolean) Q) (hF : x.1.2.2.2.frames = 3 ∧ x.1.2.2.2.locals = 84) (hC : x.2.2.2.2.2 = (fun _ => false)) (hxt : (∀ z ∈ x.2.2.1.2.1.exceptionTable.toList, False)) : Snd x 57 (bX0_areAlike_57 E Q) := by
  unfold bX0_areAlike_57
  refine s_icmpne (tgt := 64) G.b dX0_areAlike_57 (by decide) (tX0_areAlike_64 EN G hF hC hxt) ?_
  refine s_iconst (by decide) G.b dX0_areAlike_60 ?_
  exact s_goto (tgt := 65) G.b dX0_areAlike_61 (by decide) (tX0_areAlike_65 EN G hF hC hxt)
set_option maxHeartbeats 4000000 in
theorem tX0_areAlike_51 {x : CX} {E : Nat → Value} {Q : Rs → HS → Prop} (EN : EX x E) (G : Gd x cX0_areAlike "ChantRules" yX0_areAlike 2 (Option.some Jvm.ClassFile.FieldType.boolean) Q) (hF : x.1.2.2.2.frames = 3 ∧ x.1.2.2.2.locals = 84) (hC : x.2.2.2.2.2 = (fun _ => false)) (hxt : (∀ z ∈ x.2.2.1.2.1.exceptionTable.toList, False)) : Snd x 51 (bX0_areAlike_51 E Q) := by
  unfold bX0_areAlike_51
  refine s_aload_n rfl G.b dX0_areAlike_51 ?_
  exact (s_vsel (s_callF (r0 := (RX7, TX7, 4)) (w := ⟨"ChantRules$Arc", "sings", "()I"⟩) (by decide) rfl G (mX7_sings EN) q738 (va_Fw.moved (by decide +kernel) G.warm.alike ⟨(EN.nw q740 rfl), (EN.nw q739 rfl), (EN.nw q744 rfl), (EN.nw q742 rfl), (EN.nw q287 rfl)⟩) q741 q743 q99 q745 nmk_68 (rm_of hF (Nat.le_of_ble_eq_true rfl) (Nat.le_of_ble_eq_true rfl)) dX0_areAlike_52 (tX0_areAlike_57 EN G hF hC hxt) (sx_out G (fun z hz => (hxt z hz).elim)) ) (s_callF (r0 := (RX8, TX8, 5)) (w := ⟨"ChantRules$Arc", "sings", "()I"⟩) (by decide) rfl G (mX8_sings EN) q738 (va_Fw.moved (by decide +kernel) G.warm.alike ⟨(EN.nw q740 rfl), (EN.nw q739 rfl), (EN.nw q749 rfl), (EN.nw q747 rfl), (EN.nw q293 rfl)⟩) q746 q748 q100 q750 nmk_68 (rm_of hF (Nat.le_of_ble_eq_true rfl) (Nat.le_of_ble_eq_true rfl)) dX0_areAlike_52 (tX0_areAlike_57 EN G hF hC hxt) (sx_out G (fun z hz => (hxt z hz).elim)) ))
set_option maxHeartbeats 4000000 in
theorem tX0_areAlike_42 {x : CX} {E : Nat → Value} {Q : Rs → HS → Prop} (EN : EX x E) (G : Gd x cX0_areAlike "ChantRules" yX0_areAlike 2 (Option.some Jvm.ClassFile.FieldType.boolean) Q) (hF : x.1.2.2.2.frames = 3 ∧ x.1.2.2.2.locals = 84) (hC : x.2.2.2.2.2 = (fun _ => false)) (hxt : (∀ z ∈ x.2.2.1.2.1.exceptionTable.toList, False)) : Snd x 42 (bX0_areAlike_42 E Q) := by
  unfold bX0_areAlike_42
  refine s_icmpne (tgt := 64) G.b dX0_areAlike_42 (by decide) (tX0_areAlike_64 EN G hF hC hxt) ?_
  refine s_aload_n rfl G.b dX0_areAlike_45 ?_
  exact (s_vsel (s_callF (r0 := (RX7, TX7, 4)) (w := ⟨"ChantRules$Arc", "sings", "()I"⟩) (by decide) rfl G (mX7_sings EN) q738 (va_Fw.moved (by decide +kernel) G.warm.alike ⟨(EN.nw q740 rfl), (EN.nw q739 rfl), (EN.nw q744 rfl), (EN.nw q742 rfl), (EN.nw q287 rfl)⟩) q741 q743 q99 q745 nmk_68 (rm_of hF (Nat.le_of_ble_eq_true rfl) (Nat.le_of_ble_eq_true rfl)) dX0_areAlike_46 (tX0_areAlike_51 EN G hF hC hxt) (sx_out G (fun z hz => (hxt z hz).elim)) ) (s_callF (r0 := (RX8, TX8, 5)) (w := ⟨"ChantRules$Arc", "sings", "()I"⟩) (by decide) rfl G (mX8_sings EN) q738 (va_Fw.moved (by decide +kernel) G.warm.alike ⟨(EN.nw q740 rfl), (EN.nw q739 rfl), (EN.nw q749 rfl), (EN.nw q747 rfl), (EN.nw q293 rfl)⟩) q746 q748 q100 q750 nmk_68 (rm_of hF (Nat.le_of_ble_eq_true rfl) (Nat.le_of_ble_eq_true rfl)) dX0_areAlike_46 (tX0_areAlike_51 EN G hF hC hxt) (sx_out G (fun z hz => (hxt z hz).elim)) ))
set_option maxHeartbeats 4000000 in
theorem tX0_areAlike_36 {x : CX} {E : Nat → Value} {Q : Rs → HS → Prop} (EN : EX x E) (G : Gd x cX0_areAlike "ChantRules" yX0_areAlike 2 (Option.some Jvm.ClassFile.FieldType.boolean) Q) (hF : x.1.2.2.2.frames = 3 ∧ x.1.2.2.2.locals = 84) (hC : x.2.2.2.2.2 = (fun _ => false)) (hxt : (∀ z ∈ x.2.2.1.2.1.exceptionTable.toList, False)) : Snd x 36 (bX0_areAlike_36 E Q) := by
  unfold bX0_areAlike_36
  refine s_aload_n rfl G.b dX0_areAlike_36 ?_
  exact (s_vsel (s_callF (r0 := (RX7, TX7, 4)) (w := ⟨"ChantRules$Arc", "hears", "()I"⟩) (by decide) rfl G (mX7_hears EN) q284 (va_Fw.moved (by decide +kernel) G.warm.alike ⟨(EN.nw q286 rfl), (EN.nw q285 rfl), (EN.nw q291 rfl), (EN.nw q289 rfl), (EN.nw q287 rfl)⟩) q288 q290 q99 q292 nmk_20 (rm_of hF (Nat.le_of_ble_eq_true rfl) (Nat.le_of_ble_eq_true rfl)) dX0_areAlike_37 (tX0_areAlike_42 EN G hF hC hxt) (sx_out G (fun z hz => (hxt z hz).elim)) ) (s_callF (r0 := (RX8, TX8, 5)) (w := ⟨"ChantRules$Arc", "hears", "()I"⟩) (by decide) rfl G (mX8_hears EN) q284 (va_Fw.moved (by decide +kernel) G.warm.alike ⟨(EN.nw q286 rfl), (EN.nw q285 rfl), (EN.nw q297 rfl), (EN.nw q295 rfl), (EN.nw q293 rfl)⟩) q294 q296 q100 q298 nmk_20 (rm_of hF (Nat.le_of_ble_eq_true rfl) (Nat.le_of_ble_eq_true rfl)) dX0_areAlike_37 (tX0_areAlike_42 EN G hF hC hxt) (sx_out G (fun z hz => (hxt z hz).elim)) ))
set_option maxHeartbeats 4000000 in
theorem tX0_areAlike_27 {x : CX} {E : Nat → Value} {Q : Rs → HS → Prop} (EN : EX x E) (G : Gd x cX0_areAlike "ChantRules" yX0_areAlike 2 (Option.some Jvm.ClassFile.FieldType.boolean) Q) (hF : x.1.2.2.2.frames = 3 ∧ x.1.2.2.2.locals = 84) (hC : x.2.2.2.2.2 = (fun _ => false)) (hxt : (∀ z ∈ x.2.2.1.2.1.exceptionTable.toList, False)) : Snd x 27 (bX0_areAlike_27 E Q) := by
  unfold bX0_areAlike_27
  refine s_icmpne (tgt := 64) G.b dX0_areAlike_27 (by decide) (tX0_areAlike_64 EN G hF hC hxt) ?_
  refine s_aload_n rfl G.b dX0_areAlike_30 ?_
  exact (s_vsel (s_callF (r0 := (RX7, TX7, 4)) (w := ⟨"ChantRules$Arc", "hears", "()I"⟩) (by decide) rfl G (mX7_hears EN) q284 (va_Fw.moved (by decide +kernel) G.warm.alike ⟨(EN.nw q286 rfl), (EN.nw q285 rfl), (EN.nw q291 rfl), (EN.nw q289 rfl), (EN.nw q287 rfl)⟩) q288 q290 q99 q292 nmk_20 (rm_of hF (Nat.le_of_ble_eq_true rfl) (Nat.le_of_ble_eq_true rfl)) dX0_areAlike_31 (tX0_areAlike_36 EN G hF hC hxt) (sx_out G (fun z hz => (hxt z hz).elim)) ) (s_callF (r0 := (RX8, TX8, 5)) (w := ⟨"ChantRules$Arc", "hears", "()I"⟩) (by decide) rfl G (mX8_hears EN) q284 (va_Fw.moved (by decide +kernel) G.warm.alike ⟨(EN.nw q286 rfl), (EN.nw q285 rfl), (EN.nw q297 rfl), (EN.nw q295 rfl), (EN.nw q293 rfl)⟩) q294 q296 q100 q298 nmk_20 (rm_of hF (Nat.le_of_ble_eq_true rfl) (Nat.le_of_ble_eq_true rfl)) dX0_areAlike_31 (tX0_areAlike_36 EN G hF hC hxt) (sx_out G (fun z hz => (hxt z hz).elim)) ))
set_option maxHeartbeats 4000000 in
theorem tX0_areAlike_21 {x : CX} {E : Nat → Value} {Q : Rs → HS → Prop} (EN : EX x E) (G : Gd x cX0_areAlike "ChantRules" yX0_areAlike 2 (Option.some Jvm.ClassFile.FieldType.boolean) Q) (hF : x.1.2.2.2.frames = 3 ∧ x.1.2.2.2.locals = 84) (hC : x.2.2.2.2.2 = (fun _ => false)) (hxt : (∀ z ∈ x.2.2.1.2.1.exceptionTable.toList, False)) : Snd x 21 (bX0_areAlike_21 E Q) := by
  unfold bX0_areAlike_21
  refine s_aload_n rfl G.b dX0_areAlike_21 ?_
  exact (s_vsel (s_callF (r0 := (RX7, TX7, 4)) (w := ⟨"ChantRules$Arc", "to", "()I"⟩) (by decide) rfl G (mX7_to EN) q724 (va_Fw.moved (by decide +kernel) G.warm.alike ⟨(EN.nw q726 rfl), (EN.nw q725 rfl), (EN.nw q730 rfl), (EN.nw q728 rfl), (EN.nw q287 rfl)⟩) q727 q729 q99 q731 nmk_69 (rm_of hF (Nat.le_of_ble_eq_true rfl) (Nat.le_of_ble_eq_true rfl)) dX0_areAlike_22 (tX0_areAlike_27 EN G hF hC hxt) (sx_out G (fun z hz => (hxt z hz).elim)) ) (s_callF (r0 := (RX8, TX8, 5)) (w := ⟨"ChantRules$Arc", "to", "()I"⟩) (by decide) rfl G (mX8_to EN) q724 (va_Fw.moved (by decide +kernel) G.warm.alike ⟨(EN.nw q726 rfl), (EN.nw q725 rfl), (EN.nw q735 rfl), (EN.nw q733 rfl), (EN.nw q293 rfl)⟩) q732 q734 q100 q736 nmk_69 (rm_of hF (Nat.le_of_ble_eq_true rfl) (Nat.le_of_ble_eq_true rfl)) dX0_areAlike_22 (tX0_areAlike_27 EN G hF hC hxt) (sx_out G (fun z hz => (hxt z hz).elim)) ))
set_option maxHeartbeats 4000000 in
theorem tX0_areAlike_12 {x : CX} {E : Nat → Value} {Q : Rs → HS → Prop} (EN : EX x E) (G : Gd x cX0_areAlike "ChantRules" yX0_areAlike 2 (Option.some Jvm.ClassFile.FieldType.boolean) Q) (hF : x.1.2.2.2.frames = 3 ∧ x.1.2.2.2.locals = 84) (hC : x.2.2.2.2.2 = (fun _ => false)) (hxt : (∀ z ∈ x.2.2.1.2.1.exceptionTable.toList, False)) : Snd x 12 (bX0_areAlike_12 E Q) := by
  unfold bX0_areAlike_12
  refine s_icmpne (tgt := 64) G.b dX0_areAlike_12 (by decide) (tX0_areAlike_64 EN G hF hC hxt) ?_
  refine s_aload_n rfl G.b dX0_areAlike_15 ?_
  exact (s_vsel (s_callF (r0 := (RX7, TX7, 4)) (w := ⟨"ChantRules$Arc", "to", "()I"⟩) (by decide) rfl G (mX7_to EN) q724 (va_Fw.moved (by decide +kernel) G.warm.alike ⟨(EN.nw q726 rfl), (EN.nw q725 rfl), (EN.nw q730 rfl), (EN.nw q728 rfl), (EN.nw q287 rfl)⟩) q727 q729 q99 q731 nmk_69 (rm_of hF (Nat.le_of_ble_eq_true rfl) (Nat.le_of_ble_eq_true rfl)) dX0_areAlike_16 (tX0_areAlike_21 EN G hF hC hxt) (sx_out G (fun z hz => (hxt z hz).elim)) ) (s_callF (r0 := (RX8, TX8, 5)) (w := ⟨"ChantRules$Arc", "to", "()I"⟩) (by decide) rfl G (mX8_to EN) q724 (va_Fw.moved (by decide +kernel) G.warm.alike ⟨(EN.nw q726 rfl), (EN.nw q725 rfl), (EN.nw q735 rfl), (EN.nw q733 rfl), (EN.nw q293 rfl)⟩) q732 q734 q100 q736 nmk_69 (rm_of hF (Nat.le_of_ble_eq_true rfl) (Nat.le_of_ble_eq_true rfl)) dX0_areAlike_16 (tX0_areAlike_21 EN G hF hC hxt) (sx_out G (fun z hz => (hxt z hz).elim)) ))
set_option maxHeartbeats 4000000 in
theorem tX0_areAlike_6 {x : CX} {E : Nat → Value} {Q : Rs → HS → Prop} (EN : EX x E) (G : Gd x cX0_areAlike "ChantRules" yX0_areAlike 2 (Option.some Jvm.ClassFile.FieldType.boolean) Q) (hF : x.1.2.2.2.frames = 3 ∧ x.1.2.2.2.locals = 84) (hC : x.2.2.2.2.2 = (fun _ => false)) (hxt : (∀ z ∈ x.2.2.1.2.1.exceptionTable.toList, False)) : Snd x 6 (bX0_areAlike_6 E Q) := by
  unfold bX0_areAlike_6
  refine s_aload_n rfl G.b dX0_areAlike_6 ?_
  exact (s_vsel (s_callF (r0 := (RX7, TX7, 4)) (w := ⟨"ChantRules$Arc", "from", "()I"⟩) (by decide) rfl G (mX7_from EN) q710 (va_Fw.moved (by decide +kernel) G.warm.alike ⟨(EN.nw q712 rfl), (EN.nw q711 rfl), (EN.nw q716 rfl), (EN.nw q714 rfl), (EN.nw q287 rfl)⟩) q713 q715 q99 q717 nmk_70 (rm_of hF (Nat.le_of_ble_eq_true rfl) (Nat.le_of_ble_eq_true rfl)) dX0_areAlike_7 (tX0_areAlike_12 EN G hF hC hxt) (sx_out G (fun z hz => (hxt z hz).elim)) ) (s_callF (r0 := (RX8, TX8, 5)) (w := ⟨"ChantRules$Arc", "from", "()I"⟩) (by decide) rfl G (mX8_from EN) q710 (va_Fw.moved (by decide +kernel) G.warm.alike ⟨(EN.nw q712 rfl), (EN.nw q711 rfl), (EN.nw q721 rfl), (EN.nw q719 rfl), (EN.nw q293 rfl)⟩) q718 q720 q100 q722 nmk_70 (rm_of hF (Nat.le_of_ble_eq_true rfl) (Nat.le_of_ble_eq_true rfl)) dX0_areAlike_7 (tX0_areAlike_12 EN G hF hC hxt) (sx_out G (fun z hz => (hxt z hz).elim)) ))
set_option maxHeartbeats 4000000 in
theorem tX0_areAlike_0 {x : CX} {E : Nat → Value} {Q : Rs → HS → Prop} (EN : EX x E) (G : Gd x cX0_areAlike "ChantRules" yX0_areAlike 2 (Option.some Jvm.ClassFile.FieldType.boolean) Q) (hF : x.1.2.2.2.frames = 3 ∧ x.1.2.2.2.locals = 84) (hC : x.2.2.2.2.2 = (fun _ => false)) (hxt : (∀ z ∈ x.2.2.1.2.1.exceptionTable.toList, False)) : Snd x 0 (bX0_areAlike_0 E Q) := by
  unfold bX0_areAlike_0
  refine s_aload_n rfl G.b dX0_areAlike_0 ?_
  exact (s_vsel (s_callF (r0 := (RX7, TX7, 4)) (w := ⟨"ChantRules$Arc", "from", "()I"⟩) (by decide) rfl G (mX7_from EN) q710 (va_Fw.moved (by decide +kernel) G.warm.alike ⟨(EN.nw q712 rfl), (EN.nw q711 rfl), (EN.nw q716 rfl), (EN.nw q714 rfl), (EN.nw q287 rfl)⟩) q713 q715 q99 q717 nmk_70 (rm_of hF (Nat.le_of_ble_eq_true rfl) (Nat.le_of_ble_eq_true rfl)) dX0_areAlike_1 (tX0_areAlike_6 EN G hF hC hxt) (sx_out G (fun z hz => (hxt z hz).elim)) ) (s_callF (r0 := (RX8, TX8, 5)) (w := ⟨"ChantRules$Arc", "from", "()I"⟩) (by decide) rfl G (mX8_from EN) q710 (va_Fw.moved (by decide +kernel) G.warm.alike ⟨(EN.nw q712 rfl), (EN.nw q711 rfl), (EN.nw q721 rfl), (EN.nw q719 rfl), (EN.nw q293 rfl)⟩) q718 q720 q100 q722 nmk_70 (rm_of hF (Nat.le_of_ble_eq_true rfl) (Nat.le_of_ble_eq_true rfl)) dX0_areAlike_1 (tX0_areAlike_6 EN G hF hC hxt) (sx_out G (fun z hz => (hxt z hz).elim)) ))
set_option maxHeartbeats 4000000 in
theorem mX0_areAlike {l : Launch} {D : DE} {s0 : State} {E : Nat → Value} (EN : EV l D s0 E) : rMet l D s0 yX0_areAlike (ws_ yX0_areAlike cX0_areAlike 2 (Option.some Jvm.ClassFile.FieldType.boolean)) 3 84 (wX0_areAlike E) := by
  refine body_met (fun _ => false) EN.kn (fun w h => h) (by decide +kernel) rfl (fun av h Q hw => ?_) ?_
  · unfold wX0_areAlike at hw
    split at hw
    · exact Nat.le_of_ble_eq_true rfl
    · exact hw.elim
  · intro p e s m below meth c av h Q hxt G hw
    unfold wX0_areAlike at hw
    split at hw
    · exact tX0_areAlike_0 EN G ⟨rfl, rfl⟩ rfl hxt _ _ _ hw
    · exact hw.elim
/-! java/lang/Throwable.<init>(Ljava/lang/String;Ljava/lang/Throwable;ZZ)V (J13_init_2) -/
theorem fa_41 : fieldAt [6, 9, 13] 3 "java/lang/Throwable" "detailMessage" "Ljava/lang/String;" := fa_cons (r := (RX13, TX13, 7)) rfl (by decide) rfl rfl rfl (fa_cons (r := (RX6, TX6, 8)) rfl (by decide) rfl rfl rfl (fa_cons (r := (RJ13, TJ13, 5)) rfl (by decide) rfl rfl rfl (fa_nil)))
theorem fa_42 : fieldAt [6, 9, 13] 0 "java/lang/Throwable" "cause" "Ljava/lang/Throwable;" := fa_cons (r := (RX13, TX13, 7)) rfl (by decide) rfl rfl rfl (fa_cons (r := (RX6, TX6, 8)) rfl (by decide) rfl rfl rfl (fa_cons (r := (RJ13, TJ13, 5)) rfl (by decide) rfl rfl rfl (fa_nil)))
theorem fa_43 : fieldAt [6, 9, 13] 2 "java/lang/Throwable" "suppressedExceptions" "Ljava/util/List;" := fa_cons (r := (RX13, TX13, 7)) rfl (by decide) rfl rfl rfl (fa_cons (r := (RX6, TX6, 8)) rfl (by decide) rfl rfl rfl (fa_cons (r := (RJ13, TJ13, 5)) rfl (by decide) rfl rfl rfl (fa_nil)))
theorem fa_44 : fieldAt [6, 9, 13] 1 "java/lang/Throwable" "stackTrace" "[Ljava/lang/StackTraceElement;" := fa_cons (r := (RX13, TX13, 7)) rfl (by decide) rfl rfl rfl (fa_cons (r := (RX6, TX6, 8)) rfl (by decide) rfl rfl rfl (fa_cons (r := (RJ13, TJ13, 5)) rfl (by decide) rfl rfl rfl (fa_nil)))
def bJ13_init_2_60 (E : Nat → Value) (Q : Rs → HS → Prop) : Ct :=
  o_return Q
def bJ13_init_2_41 (E : Nat → Value) (Q : Rs → HS → Prop) : Ct :=
  o_aload 0 <|
  o_aload 1 <|
  o_putf [6, 9, 13] 3 (.object "java/lang/String") <|
  o_aload 0 <|
  o_aload 2 <|
  o_putf [6, 9, 13] 0 (.object "java/lang/Throwable") <|
  o_iload 3 <|
  o_ifne (bJ13_init_2_60 E Q) <|
  o_aload 0 <|
  o_push .null <|
  o_putf [6, 9, 13] 2 (.object "java/util/List") <|
  (bJ13_init_2_60 E Q)
def bJ13_init_2_36 (E : Nat → Value) (Q : Rs → HS → Prop) : Ct :=
  o_aload 0 <|
  o_push .null <|
  o_putf [6, 9, 13] 1 (.array (.object "java/lang/StackTraceElement")) <|
  (bJ13_init_2_41 E Q)
def bJ13_init_2_0 (E : Nat → Value) (Q : Rs → HS → Prop) : Ct :=
  o_aload 0 <|
  o_objInit <|
  o_aload 0 <|
  o_aload 0 <|
  o_putf [6, 9, 13] 0 (.object "java/lang/Throwable") <|
  o_aload 0 <|
  o_push (E 13) <|
  o_putf [6, 9, 13] 1 (.array (.object "java/lang/StackTraceElement")) <|
  o_aload 0 <|
  o_push (E 12) <|
  o_putf [6, 9, 13] 2 (.object "java/util/List") <|
  o_iload 4 <|
  o_ifeq (bJ13_init_2_36 E Q) <|
  o_aload 0 <|
  o_no
def wJ13_init_2 (E : Nat → Value) : Wp := fun av h Q => match av with
  | [a0, a1, a2, a3, a4] => bJ13_init_2_0 E Q [a0, a1, a2, a3, a4] [] h
  | _ => False
set_option maxHeartbeats 4000000 in
theorem tJ13_init_2_60 {x : CX} {E : Nat → Value} {Q : Rs → HS → Prop} (EN : EX x E) (G : Gd x cJ13_init_2 "java/lang/Throwable" yJ13_init_2 5 (Option.none : Option Jvm.ClassFile.FieldType) Q) (hF : x.1.2.2.2.frames = 2 ∧ x.1.2.2.2.locals = 64) (hC : x.2.2.2.2.2 = (fun _ => false)) (hxt : (∀ z ∈ x.2.2.1.2.1.exceptionTable.toList, False)) : Snd x 60 (bJ13_init_2_60 E Q) := by
  unfold bJ13_init_2_60
  exact s_return G dJ13_init_2_60
set_option maxHeartbeats 4000000 in
theorem tJ13_init_2_41 {x : CX} {E : Nat → Value} {Q : Rs → HS → Prop} (EN : EX x E) (G : Gd x cJ13_init_2 "java/lang/Throwable" yJ13_init_2 5 (Option.none : Option Jvm.ClassFile.FieldType) Q) (hF : x.1.2.2.2.frames = 2 ∧ x.1.2.2.2.locals = 64) (hC : x.2.2.2.2.2 = (fun _ => false)) (hxt : (∀ z ∈ x.2.2.1.2.1.exceptionTable.toList, False)) : Snd x 41 (bJ13_init_2_41 E Q) := by
  unfold bJ13_init_2_41
  refine s_aload_n rfl G.b dJ13_init_2_41 ?_
  refine s_aload_n rfl G.b dJ13_init_2_42 ?_
  refine s_putf G.b G.ow G.kn (G.hts _ q531) (fun _ h => h) fa_41 (la_cons (r := (RX13, TX13, 7)) G.hts (by decide) rfl q1569 (la_cons (r := (RX6, TX6, 8)) G.hts (by decide) rfl q491 (la_cons (r := (RJ13, TJ13, 5)) G.hts (by decide) rfl q492 (la_nil)))) (by decide +kernel) dJ13_init_2_43 ?_
  refine s_aload_n rfl G.b dJ13_init_2_46 ?_
  refine s_aload_n rfl G.b dJ13_init_2_47 ?_
  refine s_putf G.b G.ow G.kn (G.hts _ q532) (fun _ h => h) fa_42 (la_cons (r := (RX13, TX13, 7)) G.hts (by decide) rfl q1566 (la_cons (r := (RX6, TX6, 8)) G.hts (by decide) rfl q485 (la_cons (r := (RJ13, TJ13, 5)) G.hts (by decide) rfl q486 (la_nil)))) (by decide +kernel) dJ13_init_2_48 ?_
  refine s_iload_n rfl G.b dJ13_init_2_51 ?_
  refine s_ifne (tgt := 60) G.b dJ13_init_2_52 (by decide) (tJ13_init_2_60 EN G hF hC hxt) ?_
  refine s_aload_n rfl G.b dJ13_init_2_55 ?_
  refine s_null G.b dJ13_init_2_56 ?_
  refine s_putf G.b G.ow G.kn (G.hts _ q534) (fun _ h => h) fa_43 (la_cons (r := (RX13, TX13, 7)) G.hts (by decide) rfl q1568 (la_cons (r := (RX6, TX6, 8)) G.hts (by decide) rfl q489 (la_cons (r := (RJ13, TJ13, 5)) G.hts (by decide) rfl q490 (la_nil)))) (by decide +kernel) dJ13_init_2_57 ?_
  exact (tJ13_init_2_60 EN G hF hC hxt)
set_option maxHeartbeats 4000000 in
theorem tJ13_init_2_36 {x : CX} {E : Nat → Value} {Q : Rs → HS → Prop} (EN : EX x E) (G : Gd x cJ13_init_2 "java/lang/Throwable" yJ13_init_2 5 (Option.none : Option Jvm.ClassFile.FieldType) Q) (hF : x.1.2.2.2.frames = 2 ∧ x.1.2.2.2.locals = 64) (hC : x.2.2.2.2.2 = (fun _ => false)) (hxt : (∀ z ∈ x.2.2.1.2.1.exceptionTable.toList, False)) : Snd x 36 (bJ13_init_2_36 E Q) := by
  unfold bJ13_init_2_36
  refine s_aload_n rfl G.b dJ13_init_2_36 ?_
  refine s_null G.b dJ13_init_2_37 ?_
  refine s_putf G.b G.ow G.kn (G.hts _ q533) (fun _ h => h) fa_44 (la_cons (r := (RX13, TX13, 7)) G.hts (by decide) rfl q1567 (la_cons (r := (RX6, TX6, 8)) G.hts (by decide) rfl q487 (la_cons (r := (RJ13, TJ13, 5)) G.hts (by decide) rfl q488 (la_nil)))) (by decide +kernel) dJ13_init_2_38 ?_
  exact (tJ13_init_2_41 EN G hF hC hxt)
set_option maxHeartbeats 4000000 in
theorem tJ13_init_2_0 {x : CX} {E : Nat → Value} {Q : Rs → HS → Prop} (EN : EX x E) (G : Gd x cJ13_init_2 "java/lang/Throwable" yJ13_init_2 5 (Option.none : Option Jvm.ClassFile.FieldType) Q) (hF : x.1.2.2.2.frames = 2 ∧ x.1.2.2.2.locals = 64) (hC : x.2.2.2.2.2 = (fun _ => false)) (hxt : (∀ z ∈ x.2.2.1.2.1.exceptionTable.toList, False)) : Snd x 0 (bJ13_init_2_0 E Q) := by
  unfold bJ13_init_2_0
  refine s_aload_n rfl G.b dJ13_init_2_0 ?_
  refine s_objInit G.b G.ow G.hts q499 q122 q123 G.ml (by rw [hF.1]; decide) (by rw [hF.2]; decide) dJ13_init_2_1 ?_
  refine s_aload_n rfl G.b dJ13_init_2_4 ?_
  refine s_aload_n rfl G.b dJ13_init_2_5 ?_
  refine s_putf G.b G.ow G.kn (G.hts _ q532) (fun _ h => h) fa_42 (la_cons (r := (RX13, TX13, 7)) G.hts (by decide) rfl q1566 (la_cons (r := (RX6, TX6, 8)) G.hts (by decide) rfl q485 (la_cons (r := (RJ13, TJ13, 5)) G.hts (by decide) rfl q486 (la_nil)))) (by decide +kernel) dJ13_init_2_6 ?_
  refine s_aload_n rfl G.b dJ13_init_2_9 ?_
  refine s_getst EN G q500 (i := 13) rfl dJ13_init_2_10 ?_
  refine s_putf G.b G.ow G.kn (G.hts _ q533) (fun _ h => h) fa_44 (la_cons (r := (RX13, TX13, 7)) G.hts (by decide) rfl q1567 (la_cons (r := (RX6, TX6, 8)) G.hts (by decide) rfl q487 (la_cons (r := (RJ13, TJ13, 5)) G.hts (by decide) rfl q488 (la_nil)))) (by decide +kernel) dJ13_init_2_13 ?_
  refine s_aload_n rfl G.b dJ13_init_2_16 ?_
  refine s_getst EN G q502 (i := 12) rfl dJ13_init_2_17 ?_
  refine s_putf G.b G.ow G.kn (G.hts _ q534) (fun _ h => h) fa_43 (la_cons (r := (RX13, TX13, 7)) G.hts (by decide) rfl q1568 (la_cons (r := (RX6, TX6, 8)) G.hts (by decide) rfl q489 (la_cons (r := (RJ13, TJ13, 5)) G.hts (by decide) rfl q490 (la_nil)))) (by decide +kernel) dJ13_init_2_20 ?_
  refine s_iload G.b dJ13_init_2_23 ?_
  refine s_ifeq (tgt := 36) G.b dJ13_init_2_25 (by decide) (tJ13_init_2_36 EN G hF hC hxt) ?_
  refine s_aload_n rfl G.b dJ13_init_2_28 ?_
  exact s_no
set_option maxHeartbeats 4000000 in
theorem mJ13_init_2 {l : Launch} {D : DE} {s0 : State} {E : Nat → Value} (EN : EV l D s0 E) : rMet l D s0 yJ13_init_2 (ws_ yJ13_init_2 cJ13_init_2 5 (Option.none : Option Jvm.ClassFile.FieldType)) 2 64 (wJ13_init_2 E) := by
  refine body_met (fun _ => false) EN.kn (fun w h => h) (by decide +kernel) rfl (fun av h Q hw => ?_) ?_
  · unfold wJ13_init_2 at hw
    split at hw
    · exact Nat.le_of_ble_eq_true rfl
    · exact hw.elim
  · intro p e s m below meth c av h Q hxt G hw
    unfold wJ13_init_2 at hw
    split at hw
    · exact tJ13_init_2_0 EN G ⟨rfl, rfl⟩ rfl hxt _ _ _ hw
    · exact hw.elim
/-! java/lang/Exception.<init>(Ljava/lang/String;Ljava/lang/Throwable;ZZ)V (J14_init) -/
theorem nmk_71 : nm_ok yJ13_init_2 4 := ⟨by decide +kernel, by decide +kernel, by decide +kernel⟩
def bJ14_init_0 (E : Nat → Value) (Q : Rs → HS → Prop) : Ct :=
  o_aload 0 <|
  o_aload 1 <|
  o_aload 2 <|
  o_iload 3 <|
  o_iload 4 <|
  o_callI 5 (wJ13_init_2 E) (x_out Q) <|
  o_return Q
def wJ14_init (E : Nat → Value) : Wp := fun av h Q => match av with
  | [a0, a1, a2, a3, a4] => bJ14_init_0 E Q [a0, a1, a2, a3, a4] [] h
  | _ => False
set_option maxHeartbeats 4000000 in
theorem tJ14_init_0 {x : CX} {E : Nat → Value} {Q : Rs → HS → Prop} (EN : EX x E) (G : Gd x cJ14_init "java/lang/Exception" yJ14_init 5 (Option.none : Option Jvm.ClassFile.FieldType) Q) (hF : x.1.2.2.2.frames = 3 ∧ x.1.2.2.2.locals = 88) (hC : x.2.2.2.2.2 = (fun _ => false)) (hxt : (∀ z ∈ x.2.2.1.2.1.exceptionTable.toList, False)) : Snd x 0 (bJ14_init_0 E Q) := by
  unfold bJ14_init_0
  refine s_aload_n rfl G.b dJ14_init_0 ?_
  refine s_aload_n rfl G.b dJ14_init_1 ?_
  refine s_aload_n rfl G.b dJ14_init_2 ?_
  refine s_iload_n rfl G.b dJ14_init_3 ?_
  refine s_iload G.b dJ14_init_4 ?_
  refine s_callI G (mJ13_init_2 EN) rfl q523 q524 q96 q525 nmk_71 (rm_of hF (Nat.le_of_ble_eq_true rfl) (Nat.le_of_ble_eq_true rfl)) dJ14_init_6 ?_ (sx_out G (fun z hz => (hxt z hz).elim))
  exact s_return G dJ14_init_9
set_option maxHeartbeats 4000000 in
theorem mJ14_init {l : Launch} {D : DE} {s0 : State} {E : Nat → Value} (EN : EV l D s0 E) : rMet l D s0 yJ14_init (ws_ yJ14_init cJ14_init 5 (Option.none : Option Jvm.ClassFile.FieldType)) 3 88 (wJ14_init E) := by
  refine body_met (fun _ => false) EN.kn (fun w h => h) (by decide +kernel) rfl (fun av h Q hw => ?_) ?_
  · unfold wJ14_init at hw
    split at hw
    · exact Nat.le_of_ble_eq_true rfl
    · exact hw.elim
  · intro p e s m below meth c av h Q hxt G hw
    unfold wJ14_init at hw
    split at hw
    · exact tJ14_init_0 EN G ⟨rfl, rfl⟩ rfl hxt _ _ _ hw
    · exact hw.elim
/-! ChantRules$Refused.<init>(IILChantRules$Refused;)V (X6_init_2) -/
theorem nmk_72 : nm_ok yJ14_init 4 := ⟨by decide +kernel, by decide +kernel, by decide +kernel⟩
def bX6_init_2_0 (E : Nat → Value) (Q : Rs → HS → Prop) : Ct :=
  o_aload 0 <|
  o_push .null <|
  o_aload 3 <|
  o_push (.int 0) <|
  o_push (.int 0) <|
  o_callI 5 (wJ14_init E) (x_out Q) <|
  o_aload 0 <|
  o_iload 1 <|
  o_putf [9] 6 .int <|
  o_aload 0 <|
  o_iload 2 <|
  o_putf [9] 7 .int <|
  o_return Q
def wX6_init_2 (E : Nat → Value) : Wp := fun av h Q => match av with
  | [a0, a1, a2, a3] => bX6_init_2_0 E Q [a0, a1, a2, a3] [] h
  | _ => False
set_option maxHeartbeats 4000000 in
theorem tX6_init_2_0 {x : CX} {E : Nat → Value} {Q : Rs → HS → Prop} (EN : EX x E) (G : Gd x cX6_init_2 "ChantRules$Refused" yX6_init_2 4 (Option.none : Option Jvm.ClassFile.FieldType) Q) (hF : x.1.2.2.2.frames = 4 ∧ x.1.2.2.2.locals = 112) (hC : x.2.2.2.2.2 = (fun _ => false)) (hxt : (∀ z ∈ x.2.2.1.2.1.exceptionTable.toList, False)) : Snd x 0 (bX6_init_2_0 E Q) := by
  unfold bX6_init_2_0
  refine s_aload_n rfl G.b dX6_init_2_0 ?_
  refine s_null G.b dX6_init_2_1 ?_
  refine s_aload_n rfl G.b dX6_init_2_2 ?_
  refine s_iconst (by decide) G.b dX6_init_2_3 ?_
  refine s_iconst (by decide) G.b dX6_init_2_4 ?_
  refine s_callI G (mJ14_init EN) rfl q520 q521 q97 q522 nmk_72 (rm_of hF (Nat.le_of_ble_eq_true rfl) (Nat.le_of_ble_eq_true rfl)) dX6_init_2_5 ?_ (sx_out G (fun z hz => (hxt z hz).elim))
  refine s_aload_n rfl G.b dX6_init_2_8 ?_
  refine s_iload_n rfl G.b dX6_init_2_9 ?_
  refine s_putfF (r0 := (RX6, TX6, 8)) G.b G.ow G.kn (G.hts _ q526) (by rw [G.name]; rfl) rfl (by decide) (by decide) rfl (G.hts _ q535) (by decide +kernel) dX6_init_2_10 ?_
  refine s_aload_n rfl G.b dX6_init_2_13 ?_
  refine s_iload_n rfl G.b dX6_init_2_14 ?_
  refine s_putfF (r0 := (RX6, TX6, 8)) G.b G.ow G.kn (G.hts _ q528) (by rw [G.name]; rfl) rfl (by decide) (by decide) rfl (G.hts _ q537) (by decide +kernel) dX6_init_2_15 ?_
  exact s_return G dX6_init_2_18
set_option maxHeartbeats 4000000 in
theorem mX6_init_2 {l : Launch} {D : DE} {s0 : State} {E : Nat → Value} (EN : EV l D s0 E) : rMet l D s0 yX6_init_2 (ws_ yX6_init_2 cX6_init_2 4 (Option.none : Option Jvm.ClassFile.FieldType)) 4 112 (wX6_init_2 E) := by
  refine body_met (fun _ => false) EN.kn (fun w h => h) (by decide +kernel) rfl (fun av h Q hw => ?_) ?_
  · unfold wX6_init_2 at hw
    split at hw
    · exact Nat.le_of_ble_eq_true rfl
    · exact hw.elim
  · intro p e s m below meth c av h Q hxt G hw
    unfold wX6_init_2 at hw
    split at hw
    · exact tX6_init_2_0 EN G ⟨rfl, rfl⟩ rfl hxt _ _ _ hw
    · exact hw.elim
/-! ChantRules$Refused.<init>(II)V (X6_init) -/
theorem nmk_73 : nm_ok yX6_init_2 3 := ⟨by decide +kernel, by decide +kernel, by decide +kernel⟩
def bX6_init_0 (E : Nat → Value) (Q : Rs → HS → Prop) : Ct :=
  o_aload 0 <|
  o_iload 1 <|
  o_iload 2 <|
  o_push .null <|
  o_callI 4 (wX6_init_2 E) (x_out Q) <|
  o_return Q
def wX6_init (E : Nat → Value) : Wp := fun av h Q => match av with
  | [a0, a1, a2] => bX6_init_0 E Q [a0, a1, a2] [] h
  | _ => False
set_option maxHeartbeats 4000000 in
theorem tX6_init_0 {x : CX} {E : Nat → Value} {Q : Rs → HS → Prop} (EN : EX x E) (G : Gd x cX6_init "ChantRules$Refused" yX6_init 3 (Option.none : Option Jvm.ClassFile.FieldType) Q) (hF : x.1.2.2.2.frames = 5 ∧ x.1.2.2.2.locals = 135) (hC : x.2.2.2.2.2 = (fun _ => false)) (hxt : (∀ z ∈ x.2.2.1.2.1.exceptionTable.toList, False)) : Snd x 0 (bX6_init_0 E Q) := by
  unfold bX6_init_0
  refine s_aload_n rfl G.b dX6_init_0 ?_
  refine s_iload_n rfl G.b dX6_init_1 ?_
  refine s_iload_n rfl G.b dX6_init_2 ?_
  refine s_null G.b dX6_init_3 ?_
  refine s_callI G (mX6_init_2 EN) rfl q517 q518 q98 q519 nmk_73 (rm_of hF (Nat.le_of_ble_eq_true rfl) (Nat.le_of_ble_eq_true rfl)) dX6_init_4 ?_ (sx_out G (fun z hz => (hxt z hz).elim))
  exact s_return G dX6_init_7
set_option maxHeartbeats 4000000 in
theorem mX6_init {l : Launch} {D : DE} {s0 : State} {E : Nat → Value} (EN : EV l D s0 E) : rMet l D s0 yX6_init (ws_ yX6_init cX6_init 3 (Option.none : Option Jvm.ClassFile.FieldType)) 5 135 (wX6_init E) := by
  refine body_met (fun _ => false) EN.kn (fun w h => h) (by decide +kernel) rfl (fun av h Q hw => ?_) ?_
  · unfold wX6_init at hw
    split at hw
    · exact Nat.le_of_ble_eq_true rfl
    · exact hw.elim
  · intro p e s m below meth c av h Q hxt G hw
    unfold wX6_init at hw
    split at hw
    · exact tX6_init_0 EN G ⟨rfl, rfl⟩ rfl hxt _ _ _ hw
    · exact hw.elim
/-! ChantRules.refuse(ZII)V (X0_refuse) -/
theorem nmk_74 : nm_ok yX6_init 2 := ⟨by decide +kernel, by decide +kernel, by decide +kernel⟩
def bX0_refuse_14 (E : Nat → Value) (Q : Rs → HS → Prop) : Ct :=
  o_return Q
def bX0_refuse_0 (E : Nat → Value) (Q : Rs → HS → Prop) : Ct :=
  o_iload 0 <|
  o_ifeq (bX0_refuse_14 E Q) <|
  o_new 9 8 [.null, .null, .null, .null, .null, .int 0, .int 0, .int 0] <|
  o_dup <|
  o_iload 1 <|
  o_iload 2 <|
  o_callI 3 (wX6_init E) (x_out Q) <|
  o_athrow (x_out Q)
def wX0_refuse (E : Nat → Value) : Wp := fun av h Q => match av with
  | [a0, a1, a2] => bX0_refuse_0 E Q [a0, a1, a2] [] h
  | _ => False
set_option maxHeartbeats 4000000 in
theorem tX0_refuse_14 {x : CX} {E : Nat → Value} {Q : Rs → HS → Prop} (EN : EX x E) (G : Gd x cX0_refuse "ChantRules" yX0_refuse 3 (Option.none : Option Jvm.ClassFile.FieldType) Q) (hF : x.1.2.2.2.frames = 6 ∧ x.1.2.2.2.locals = 157) (hC : x.2.2.2.2.2 = (fun _ => false)) (hxt : (∀ z ∈ x.2.2.1.2.1.exceptionTable.toList, False)) : Snd x 14 (bX0_refuse_14 E Q) := by
  unfold bX0_refuse_14
  exact s_return G dX0_refuse_14
set_option maxHeartbeats 4000000 in
theorem tX0_refuse_0 {x : CX} {E : Nat → Value} {Q : Rs → HS → Prop} (EN : EX x E) (G : Gd x cX0_refuse "ChantRules" yX0_refuse 3 (Option.none : Option Jvm.ClassFile.FieldType) Q) (hF : x.1.2.2.2.frames = 6 ∧ x.1.2.2.2.locals = 157) (hC : x.2.2.2.2.2 = (fun _ => false)) (hxt : (∀ z ∈ x.2.2.1.2.1.exceptionTable.toList, False)) : Snd x 0 (bX0_refuse_0 E Q) := by
  unfold bX0_refuse_0
  refine s_iload_n rfl G.b dX0_refuse_0 ?_
  refine s_ifeq (tgt := 14) G.b dX0_refuse_1 (by decide) (tX0_refuse_14 EN G hF hC hxt) ?_
  refine s_new (C := RX6) (T0 := TX6) (N := 8) G.b G.ow G.kn G.gr G.hts rfl (by decide) in_X6 q335 q477 q98 tyX6 tyX6_ok rfl dX0_refuse_4 ?_
  refine s_dup G.b dX0_refuse_7 ?_
  refine s_iload_n rfl G.b dX0_refuse_8 ?_
  refine s_iload_n rfl G.b dX0_refuse_9 ?_
  refine s_callI G (mX6_init EN) rfl q514 q515 q98 q516 nmk_74 (rm_of hF (Nat.le_of_ble_eq_true rfl) (Nat.le_of_ble_eq_true rfl)) dX0_refuse_10 ?_ (sx_out G (fun z hz => (hxt z hz).elim))
  exact s_athrow G.b G.kn dX0_refuse_13 (sx_out G (fun z hz => (hxt z hz).elim))
set_option maxHeartbeats 4000000 in
theorem mX0_refuse {l : Launch} {D : DE} {s0 : State} {E : Nat → Value} (EN : EV l D s0 E) : rMet l D s0 yX0_refuse (ws_ yX0_refuse cX0_refuse 3 (Option.none : Option Jvm.ClassFile.FieldType)) 6 157 (wX0_refuse E) := by
  refine body_met (fun _ => false) EN.kn (fun w h => h) (by decide +kernel) rfl (fun av h Q hw => ?_) ?_
  · unfold wX0_refuse at hw
    split at hw
    · exact Nat.le_of_ble_eq_true rfl
    · exact hw.elim
  · intro p e s m below meth c av h Q hxt G hw
    unfold wX0_refuse at hw
    split at hw
    · exact tX0_refuse_0 EN G ⟨rfl, rfl⟩ rfl hxt _ _ _ hw
    · exact hw.elim
/-! java/util/ArrayList.elementData(I)Ljava/lang/Object; (J2_elementData) -/
def bJ2_elementData_0 (E : Nat → Value) (Q : Rs → HS → Prop) : Ct :=
  o_aload 0 <|
  o_getf [15] 1 <|
  o_iload 1 <|
  o_ald [103, 104, 105, 106, 107] <|
  o_areturn Q
def wJ2_elementData (E : Nat → Value) : Wp := fun av h Q => match av with
  | [a0, a1] => bJ2_elementData_0 E Q [a0, a1] [] h
  | _ => False
set_option maxHeartbeats 4000000 in
theorem tJ2_elementData_0 {x : CX} {E : Nat → Value} {Q : Rs → HS → Prop} (EN : EX x E) (G : Gd x cJ2_elementData "java/util/ArrayList" yJ2_elementData 2 (Option.some (Jvm.ClassFile.FieldType.object "java/lang/Object")) Q) (hF : x.1.2.2.2.frames = 2 ∧ x.1.2.2.2.locals = 64) (hC : x.2.2.2.2.2 = (fun _ => false)) (hxt : (∀ z ∈ x.2.2.1.2.1.exceptionTable.toList, False)) : Snd x 0 (bJ2_elementData_0 E Q) := by
  unfold bJ2_elementData_0
  refine s_aload_n rfl G.b dJ2_elementData_0 ?_
  refine s_getf G.b G.ow G.kn (G.hts _ q158) (fun _ h => h) fa_1 dJ2_elementData_1 ?_
  refine s_iload_n rfl G.b dJ2_elementData_4 ?_
  refine s_aald G.b G.kn dJ2_elementData_5 ?_
  exact s_areturn (Or.inl ⟨_, rfl⟩) G dJ2_elementData_6
set_option maxHeartbeats 4000000 in
theorem mJ2_elementData {l : Launch} {D : DE} {s0 : State} {E : Nat → Value} (EN : EV l D s0 E) : rMet l D s0 yJ2_elementData (ws_ yJ2_elementData cJ2_elementData 2 (Option.some (Jvm.ClassFile.FieldType.object "java/lang/Object"))) 2 64 (wJ2_elementData E) := by
  refine body_met (fun _ => false) EN.kn (fun w h => h) (by decide +kernel) rfl (fun av h Q hw => ?_) ?_
  · unfold wJ2_elementData at hw
    split at hw
    · exact Nat.le_of_ble_eq_true rfl
    · exact hw.elim
  · intro p e s m below meth c av h Q hxt G hw
    unfold wJ2_elementData at hw
    split at hw
    · exact tJ2_elementData_0 EN G ⟨rfl, rfl⟩ rfl hxt _ _ _ hw
    · exact hw.elim
/-! java/util/Objects.checkIndex(II)I (J15_checkIndex) -/
def bJ15_checkIndex_0 (E : Nat → Value) (Q : Rs → HS → Prop) : Ct :=
  o_iload 0 <|
  o_iload 1 <|
  o_push .null <|
  o_call 3 (wJ16_checkIndex E) (x_out Q) <|
  o_ireturn .int Q
def wJ15_checkIndex (E : Nat → Value) : Wp := fun av h Q => match av with
  | [a0, a1] => bJ15_checkIndex_0 E Q [a0, a1] [] h
  | _ => False
set_option maxHeartbeats 4000000 in
theorem tJ15_checkIndex_0 {x : CX} {E : Nat → Value} {Q : Rs → HS → Prop} (EN : EX x E) (G : Gd x cJ15_checkIndex "java/util/Objects" yJ15_checkIndex 2 (Option.some Jvm.ClassFile.FieldType.int) Q) (hF : x.1.2.2.2.frames = 3 ∧ x.1.2.2.2.locals = 86) (hC : x.2.2.2.2.2 = (fun _ => false)) (hxt : (∀ z ∈ x.2.2.1.2.1.exceptionTable.toList, False)) : Snd x 0 (bJ15_checkIndex_0 E Q) := by
  unfold bJ15_checkIndex_0
  refine s_iload_n rfl G.b dJ15_checkIndex_0 ?_
  refine s_iload_n rfl G.b dJ15_checkIndex_1 ?_
  refine s_null G.b dJ15_checkIndex_2 ?_
  refine s_callS G (mJ16_checkIndex EN) q699 q700 q102 q701 nmk_41 (rm_of hF (Nat.le_of_ble_eq_true rfl) (Nat.le_of_ble_eq_true rfl)) dJ15_checkIndex_3 ?_ (sx_out G (fun z hz => (hxt z hz).elim))
  exact s_ireturn G dJ15_checkIndex_6
set_option maxHeartbeats 4000000 in
theorem mJ15_checkIndex {l : Launch} {D : DE} {s0 : State} {E : Nat → Value} (EN : EV l D s0 E) : rMet l D s0 yJ15_checkIndex (ws_ yJ15_checkIndex cJ15_checkIndex 2 (Option.some Jvm.ClassFile.FieldType.int)) 3 86 (wJ15_checkIndex E) := by
  refine body_met (fun _ => false) EN.kn (fun w h => h) (by decide +kernel) rfl (fun av h Q hw => ?_) ?_
  · unfold wJ15_checkIndex at hw
    split at hw
    · exact Nat.le_of_ble_eq_true rfl
    · exact hw.elim
  · intro p e s m below meth c av h Q hxt G hw
    unfold wJ15_checkIndex at hw
    split at hw
    · exact tJ15_checkIndex_0 EN G ⟨rfl, rfl⟩ rfl hxt _ _ _ hw
    · exact hw.elim
/-! java/util/ArrayList.get(I)Ljava/lang/Object; (J2_get) -/
theorem nmk_75 : nm_ok yJ15_checkIndex 2 := ⟨by decide +kernel, by decide +kernel, by decide +kernel⟩
theorem nmk_76 : nm_ok yJ2_elementData 1 := ⟨by decide +kernel, by decide +kernel, by decide +kernel⟩
def bJ2_get_0 (E : Nat → Value) (Q : Rs → HS → Prop) : Ct :=
  o_iload 1 <|
  o_aload 0 <|
  o_getf [15] 2 <|
  o_call 2 (wJ15_checkIndex E) (x_out Q) <|
  o_pop <|
  o_aload 0 <|
  o_iload 1 <|
  o_callV [15] 2 (wJ2_elementData E) (x_out Q) <|
  o_areturn Q
def wJ2_get (E : Nat → Value) : Wp := fun av h Q => match av with
  | [a0, a1] => bJ2_get_0 E Q [a0, a1] [] h
  | _ => False
set_option maxHeartbeats 4000000 in
theorem tJ2_get_0 {x : CX} {E : Nat → Value} {Q : Rs → HS → Prop} (EN : EX x E) (G : Gd x cJ2_get "java/util/ArrayList" yJ2_get 2 (Option.some (Jvm.ClassFile.FieldType.object "java/lang/Object")) Q) (hF : x.1.2.2.2.frames = 4 ∧ x.1.2.2.2.locals = 107) (hC : x.2.2.2.2.2 = (fun _ => false)) (hxt : (∀ z ∈ x.2.2.1.2.1.exceptionTable.toList, False)) : Snd x 0 (bJ2_get_0 E Q) := by
  unfold bJ2_get_0
  refine s_iload_n rfl G.b dJ2_get_0 ?_
  refine s_aload_n rfl G.b dJ2_get_1 ?_
  refine s_getf G.b G.ow G.kn (G.hts _ q161) (fun _ h => h) fa_21 dJ2_get_2 ?_
  refine s_callS G (mJ15_checkIndex EN) q696 q697 q101 q698 nmk_75 (rm_of hF (Nat.le_of_ble_eq_true rfl) (Nat.le_of_ble_eq_true rfl)) dJ2_get_5 ?_ (sx_out G (fun z hz => (hxt z hz).elim))
  refine s_pop G.b dJ2_get_8 ?_
  refine s_aload_n rfl G.b dJ2_get_9 ?_
  refine s_iload_n rfl G.b dJ2_get_10 ?_
  refine s_callV G (mJ2_elementData EN) q702 q703 (sel_cons (r := (RJ2, TJ2, 3)) (by decide) rfl q704 (sel_nil)) q82 q705 nmk_76 (rm_of hF (Nat.le_of_ble_eq_true rfl) (Nat.le_of_ble_eq_true rfl)) dJ2_get_11 ?_ (sx_out G (fun z hz => (hxt z hz).elim))
  exact s_areturn (Or.inl ⟨_, rfl⟩) G dJ2_get_14
set_option maxHeartbeats 4000000 in
theorem mJ2_get {l : Launch} {D : DE} {s0 : State} {E : Nat → Value} (EN : EV l D s0 E) : rMet l D s0 yJ2_get (ws_ yJ2_get cJ2_get 2 (Option.some (Jvm.ClassFile.FieldType.object "java/lang/Object"))) 4 107 (wJ2_get E) := by
  refine body_met (fun _ => false) EN.kn (fun w h => h) (by decide +kernel) rfl (fun av h Q hw => ?_) ?_
  · unfold wJ2_get at hw
    split at hw
    · exact Nat.le_of_ble_eq_true rfl
    · exact hw.elim
  · intro p e s m below meth c av h Q hxt G hw
    unfold wJ2_get at hw
    split at hw
    · exact tJ2_get_0 EN G ⟨rfl, rfl⟩ rfl hxt _ _ _ hw
    · exact hw.elim
/-! ChantRules$Rule.tells(LChantRules$Arc;)I (X3_tells_2) -/
theorem nmk_77 : nm_ok yX0_refuse 3 := ⟨by decide +kernel, by decide +kernel, by decide +kernel⟩
theorem nmk_78 : nm_ok yJ2_get 1 := ⟨by decide +kernel, by decide +kernel, by decide +kernel⟩
theorem nmk_79 : nm_ok yX0_areAlike 2 := ⟨by decide +kernel, by decide +kernel, by decide +kernel⟩
def bX3_tells_2_56 (E : Nat → Value) (Q : Rs → HS → Prop) (X2 : Ct) : Ct :=
  o_push (.int 1) <|
  o_push (.int 12) <|
  o_call 3 (wX0_refuse E) (x_out Q) <|
  o_aload 0 <|
  o_getf [2] 0 <|
  o_aload 1 <|
  o_callV [15] 2 (wJ2_add E) (x_out Q) <|
  o_pop <|
  o_aload 0 <|
  o_getf [2] 0 <|
  o_callV [15] 1 (wJ2_size E) (x_out Q) <|
  o_push (.int 1) <|
  o_isub <|
  o_ireturn .int Q
def bX3_tells_2_55 (E : Nat → Value) (Q : Rs → HS → Prop) (X2 : Ct) : Ct :=
  o_push (.int 0) <|
  (bX3_tells_2_56 E Q X2)
def bX3_tells_2_39 (E : Nat → Value) (Q : Rs → HS → Prop) (X2 : Ct) : Ct :=
  o_aload 0 <|
  o_getf [2] 0 <|
  o_callV [15] 1 (wJ2_size E) (x_out Q) <|
  o_push (.int 12) <|
  o_icmpne (bX3_tells_2_55 E Q X2) <|
  o_push (.int 1) <|
  (bX3_tells_2_56 E Q X2)
def bX3_tells_2_2 (E : Nat → Value) (Q : Rs → HS → Prop) (X2 : Ct) : Ct :=
  o_iload 2 <|
  o_aload 0 <|
  o_getf [2] 0 <|
  o_callV [15] 1 (wJ2_size E) (x_out Q) <|
  o_icmpge (bX3_tells_2_39 E Q X2) <|
  o_aload 0 <|
  o_getf [2] 0 <|
  o_iload 2 <|
  o_callV [15] 2 (wJ2_get E) (x_out Q) <|
  o_cast [10, 11] <|
  o_aload 1 <|
  o_call 2 (wX0_areAlike E) (x_out Q) <|
  o_push (.int 2) <|
  o_iload 2 <|
  o_call 3 (wX0_refuse E) (x_out Q) <|
  o_iinc 2 1 <|
  X2
def bX3_tells_2_0 (E : Nat → Value) (Q : Rs → HS → Prop) (X2 : Ct) : Ct :=
  o_push (.int 0) <|
  o_istore 2 <|
  X2
def wX3_tells_2 (E : Nat → Value) : Wp := fun av h Q => match av with
  | [a0, a1] => ∀ X2 : Ct, (∀ ls st h, bX3_tells_2_2 E Q X2 ls st h → X2 ls st h) → bX3_tells_2_0 E Q X2 [a0, a1, jk] [] h
  | _ => False
set_option maxHeartbeats 4000000 in
theorem tX3_tells_2_56 {x : CX} {E : Nat → Value} {Q : Rs → HS → Prop} {X2 : Ct} (EN : EX x E) (G : Gd x cX3_tells_2 "ChantRules$Rule" yX3_tells_2 3 (Option.some Jvm.ClassFile.FieldType.int) Q) (hF : x.1.2.2.2.frames = 14 ∧ x.1.2.2.2.locals = 331) (hC : x.2.2.2.2.2 = (fun _ => false)) (hxt : (∀ z ∈ x.2.2.1.2.1.exceptionTable.toList, False)) (h2 : Snd x 2 X2) : Snd x 56 (bX3_tells_2_56 E Q X2) := by
  unfold bX3_tells_2_56
  refine s_iconst (by decide) G.b dX3_tells_2_56 ?_
  refine s_bipush (by decide) G.b dX3_tells_2_57 ?_
  refine s_callSN G (mX0_refuse EN) (va_Nw.use rfl (va_Nw.warmM G.warm (EN.nw q474 rfl))) q475 q76 q476 nmk_77 (rm_of hF (Nat.le_of_ble_eq_true rfl) (Nat.le_of_ble_eq_true rfl)) dX3_tells_2_59 ?_ (sx_out G (fun z hz => (hxt z hz).elim))
  refine s_aload_n rfl G.b dX3_tells_2_62 ?_
  refine s_getf G.b G.ow G.kn (G.hts _ q175) (fun _ h => h) fa_3 dX3_tells_2_63 ?_
  refine s_aload_n rfl G.b dX3_tells_2_66 ?_
  refine s_callV G (mJ2_add EN) q401 q402 (sel_cons (r := (RJ2, TJ2, 3)) (by decide) rfl q403 (sel_nil)) q82 q404 nmk_64 (rm_of hF (Nat.le_of_ble_eq_true rfl) (Nat.le_of_ble_eq_true rfl)) dX3_tells_2_67 ?_ (sx_out G (fun z hz => (hxt z hz).elim))
  refine s_pop G.b dX3_tells_2_70 ?_
  refine s_aload_n rfl G.b dX3_tells_2_71 ?_
  refine s_getf G.b G.ow G.kn (G.hts _ q175) (fun _ h => h) fa_3 dX3_tells_2_72 ?_
  refine s_callV G (mJ2_size EN) q688 q689 (sel_cons (r := (RJ2, TJ2, 3)) (by decide) rfl q690 (sel_nil)) q82 q691 nmk_28 (rm_of hF (Nat.le_of_ble_eq_true rfl) (Nat.le_of_ble_eq_true rfl)) dX3_tells_2_75 ?_ (sx_out G (fun z hz => (hxt z hz).elim))
  refine s_iconst (by decide) G.b dX3_tells_2_78 ?_
  refine s_isub G.b dX3_tells_2_79 ?_
  exact s_ireturn G dX3_tells_2_80
set_option maxHeartbeats 4000000 in
theorem tX3_tells_2_55 {x : CX} {E : Nat → Value} {Q : Rs → HS → Prop} {X2 : Ct} (EN : EX x E) (G : Gd x cX3_tells_2 "ChantRules$Rule" yX3_tells_2 3 (Option.some Jvm.ClassFile.FieldType.int) Q) (hF : x.1.2.2.2.frames = 14 ∧ x.1.2.2.2.locals = 331) (hC : x.2.2.2.2.2 = (fun _ => false)) (hxt : (∀ z ∈ x.2.2.1.2.1.exceptionTable.toList, False)) (h2 : Snd x 2 X2) : Snd x 55 (bX3_tells_2_55 E Q X2) := by
  unfold bX3_tells_2_55
  refine s_iconst (by decide) G.b dX3_tells_2_55 ?_
  exact (tX3_tells_2_56 EN G hF hC hxt h2)
set_option maxHeartbeats 4000000 in
theorem tX3_tells_2_39 {x : CX} {E : Nat → Value} {Q : Rs → HS → Prop} {X2 : Ct} (EN : EX x E) (G : Gd x cX3_tells_2 "ChantRules$Rule" yX3_tells_2 3 (Option.some Jvm.ClassFile.FieldType.int) Q) (hF : x.1.2.2.2.frames = 14 ∧ x.1.2.2.2.locals = 331) (hC : x.2.2.2.2.2 = (fun _ => false)) (hxt : (∀ z ∈ x.2.2.1.2.1.exceptionTable.toList, False)) (h2 : Snd x 2 X2) : Snd x 39 (bX3_tells_2_39 E Q X2) := by
  unfold bX3_tells_2_39
  refine s_aload_n rfl G.b dX3_tells_2_39 ?_
  refine s_getf G.b G.ow G.kn (G.hts _ q175) (fun _ h => h) fa_3 dX3_tells_2_40 ?_
  refine s_callV G (mJ2_size EN) q688 q689 (sel_cons (r := (RJ2, TJ2, 3)) (by decide) rfl q690 (sel_nil)) q82 q691 nmk_28 (rm_of hF (Nat.le_of_ble_eq_true rfl) (Nat.le_of_ble_eq_true rfl)) dX3_tells_2_43 ?_ (sx_out G (fun z hz => (hxt z hz).elim))
  refine s_bipush (by decide) G.b dX3_tells_2_46 ?_
  refine s_icmpne (tgt := 55) G.b dX3_tells_2_48 (by decide) (tX3_tells_2_55 EN G hF hC hxt h2) ?_
  refine s_iconst (by decide) G.b dX3_tells_2_51 ?_
  exact s_goto (tgt := 56) G.b dX3_tells_2_52 (by decide) (tX3_tells_2_56 EN G hF hC hxt h2)
set_option maxHeartbeats 4000000 in
theorem tX3_tells_2_2 {x : CX} {E : Nat → Value} {Q : Rs → HS → Prop} {X2 : Ct} (EN : EX x E) (G : Gd x cX3_tells_2 "ChantRules$Rule" yX3_tells_2 3 (Option.some Jvm.ClassFile.FieldType.int) Q) (hF : x.1.2.2.2.frames = 14 ∧ x.1.2.2.2.locals = 331) (hC : x.2.2.2.2.2 = (fun _ => false)) (hxt : (∀ z ∈ x.2.2.1.2.1.exceptionTable.toList, False)) (h2 : Snd x 2 X2) : Snd x 2 (bX3_tells_2_2 E Q X2) := by
  unfold bX3_tells_2_2
  refine s_iload_n rfl G.b dX3_tells_2_2 ?_
  refine s_aload_n rfl G.b dX3_tells_2_3 ?_
  refine s_getf G.b G.ow G.kn (G.hts _ q175) (fun _ h => h) fa_3 dX3_tells_2_4 ?_
  refine s_callV G (mJ2_size EN) q688 q689 (sel_cons (r := (RJ2, TJ2, 3)) (by decide) rfl q690 (sel_nil)) q82 q691 nmk_28 (rm_of hF (Nat.le_of_ble_eq_true rfl) (Nat.le_of_ble_eq_true rfl)) dX3_tells_2_7 ?_ (sx_out G (fun z hz => (hxt z hz).elim))
  refine s_icmpge (tgt := 39) G.b dX3_tells_2_10 (by decide) (tX3_tells_2_39 EN G hF hC hxt h2) ?_
  refine s_aload_n rfl G.b dX3_tells_2_13 ?_
  refine s_getf G.b G.ow G.kn (G.hts _ q175) (fun _ h => h) fa_3 dX3_tells_2_14 ?_
  refine s_iload_n rfl G.b dX3_tells_2_17 ?_
  refine s_callV G (mJ2_get EN) q692 q693 (sel_cons (r := (RJ2, TJ2, 3)) (by decide) rfl q694 (sel_nil)) q82 q695 nmk_78 (rm_of hF (Nat.le_of_ble_eq_true rfl) (Nat.le_of_ble_eq_true rfl)) dX3_tells_2_18 ?_ (sx_out G (fun z hz => (hxt z hz).elim))
  refine s_cast G.b G.ow G.kn G.hts q400 ct_1 dX3_tells_2_21 ?_
  refine s_aload_n rfl G.b dX3_tells_2_24 ?_
  refine s_callSN G (mX0_areAlike EN) (va_Nw.use rfl (va_Nw.warmM G.warm (EN.nw q706 rfl))) q707 q76 q708 nmk_79 (rm_of hF (Nat.le_of_ble_eq_true rfl) (Nat.le_of_ble_eq_true rfl)) dX3_tells_2_25 ?_ (sx_out G (fun z hz => (hxt z hz).elim))
  refine s_iconst (by decide) G.b dX3_tells_2_28 ?_
  refine s_iload_n rfl G.b dX3_tells_2_29 ?_
  refine s_callSN G (mX0_refuse EN) (va_Nw.use rfl (va_Nw.warmM G.warm (EN.nw q474 rfl))) q475 q76 q476 nmk_77 (rm_of hF (Nat.le_of_ble_eq_true rfl) (Nat.le_of_ble_eq_true rfl)) dX3_tells_2_30 ?_ (sx_out G (fun z hz => (hxt z hz).elim))
  refine s_iinc (by decide) G.b (by rw [G.nl]; decide) (fun _ _ => by rw [hC]) dX3_tells_2_33 ?_
  exact s_goto (tgt := 2) G.b dX3_tells_2_36 (by decide) h2
set_option maxHeartbeats 4000000 in
theorem tX3_tells_2_0 {x : CX} {E : Nat → Value} {Q : Rs → HS → Prop} {X2 : Ct} (EN : EX x E) (G : Gd x cX3_tells_2 "ChantRules$Rule" yX3_tells_2 3 (Option.some Jvm.ClassFile.FieldType.int) Q) (hF : x.1.2.2.2.frames = 14 ∧ x.1.2.2.2.locals = 331) (hC : x.2.2.2.2.2 = (fun _ => false)) (hxt : (∀ z ∈ x.2.2.1.2.1.exceptionTable.toList, False)) (h2 : Snd x 2 X2) : Snd x 0 (bX3_tells_2_0 E Q X2) := by
  unfold bX3_tells_2_0
  refine s_iconst (by decide) G.b dX3_tells_2_0 ?_
  refine s_istore_n rfl G.b (by rw [G.nl]; decide) (fun _ _ => by rw [hC]) dX3_tells_2_1 ?_
  exact h2
set_option maxHeartbeats 4000000 in
theorem mX3_tells_2 {l : Launch} {D : DE} {s0 : State} {E : Nat → Value} (EN : EV l D s0 E) : rMet l D s0 yX3_tells_2 (ws_ yX3_tells_2 cX3_tells_2 3 (Option.some Jvm.ClassFile.FieldType.int)) 14 331 (wX3_tells_2 E) := by
  refine body_met (fun _ => false) EN.kn (fun w h => h) (by decide +kernel) rfl (fun av h Q hw => ?_) ?_
  · unfold wX3_tells_2 at hw
    split at hw
    · exact Nat.le_of_ble_eq_true rfl
    · exact hw.elim
  · intro p e s m below meth c av h Q hxt G hw
    unfold wX3_tells_2 at hw
    split at hw
    · exact tX3_tells_2_0 EN G ⟨rfl, rfl⟩ rfl hxt (fun _ _ _ h => h) _ _ _ (hw (AW _ 2) (tX3_tells_2_2 EN G ⟨rfl, rfl⟩ rfl hxt (fun _ _ _ h => h)))
    · exact hw.elim
/-! ChantRules$Choir.tells(ILChantRules$Arc;)I (X1_tells) -/
theorem nmk_80 : nm_ok yX3_tells_2 1 := ⟨by decide +kernel, by decide +kernel, by decide +kernel⟩
def bX1_tells_0 (E : Nat → Value) (Q : Rs → HS → Prop) : Ct :=
  o_aload 0 <|
  o_getf [1] 0 <|
  o_iload 1 <|
  o_ald [103, 104, 105, 106, 107] <|
  o_aload 2 <|
  o_callV [2] 2 (wX3_tells_2 E) (x_out Q) <|
  o_istore 3 <|
  o_aload 0 <|
  o_dup <|
  o_getf [1] 1 <|
  o_push (.int 1) <|
  o_iadd <|
  o_putf [1] 1 .int <|
  o_iload 3 <|
  o_ireturn .int Q
def wX1_tells (E : Nat → Value) : Wp := fun av h Q => match av with
  | [a0, a1, a2] => bX1_tells_0 E Q [a0, a1, a2, jk] [] h
  | _ => False
set_option maxHeartbeats 4000000 in
theorem tX1_tells_0 {x : CX} {E : Nat → Value} {Q : Rs → HS → Prop} (EN : EX x E) (G : Gd x cX1_tells "ChantRules$Choir" yX1_tells 4 (Option.some Jvm.ClassFile.FieldType.int) Q) (hF : x.1.2.2.2.frames = 15 ∧ x.1.2.2.2.locals = 353) (hC : x.2.2.2.2.2 = (fun _ => false)) (hxt : (∀ z ∈ x.2.2.1.2.1.exceptionTable.toList, False)) : Snd x 0 (bX1_tells_0 E Q) := by
  unfold bX1_tells_0
  refine s_aload_n rfl G.b dX1_tells_0 ?_
  refine s_getf G.b G.ow G.kn (G.hts _ q192) (fun _ h => h) fa_5 dX1_tells_1 ?_
  refine s_iload_n rfl G.b dX1_tells_4 ?_
  refine s_aald G.b G.kn dX1_tells_5 ?_
  refine s_aload_n rfl G.b dX1_tells_6 ?_
  refine s_callV G (mX3_tells_2 EN) q684 q685 (sel_cons (r := (RX3, TX3, 3)) (by decide) rfl q686 (sel_nil)) q79 q687 nmk_80 (rm_of hF (Nat.le_of_ble_eq_true rfl) (Nat.le_of_ble_eq_true rfl)) dX1_tells_7 ?_ (sx_out G (fun z hz => (hxt z hz).elim))
  refine s_istore_n rfl G.b (by rw [G.nl]; decide) (fun _ _ => by rw [hC]) dX1_tells_10 ?_
  refine s_aload_n rfl G.b dX1_tells_11 ?_
  refine s_dup G.b dX1_tells_12 ?_
  refine s_getf G.b G.ow G.kn (G.hts _ q195) (fun _ h => h) fa_28 dX1_tells_13 ?_
  refine s_iconst (by decide) G.b dX1_tells_16 ?_
  refine s_iadd G.b dX1_tells_17 ?_
  refine s_putf G.b G.ow G.kn (G.hts _ q195) (fun _ h => h) fa_28 (la_cons (r := (RX1, TX1, 4)) G.hts (by decide) rfl q203 (la_nil)) (by decide +kernel) dX1_tells_18 ?_
  refine s_iload_n rfl G.b dX1_tells_21 ?_
  exact s_ireturn G dX1_tells_22
set_option maxHeartbeats 4000000 in
theorem mX1_tells {l : Launch} {D : DE} {s0 : State} {E : Nat → Value} (EN : EV l D s0 E) : rMet l D s0 yX1_tells (ws_ yX1_tells cX1_tells 4 (Option.some Jvm.ClassFile.FieldType.int)) 15 353 (wX1_tells E) := by
  refine body_met (fun _ => false) EN.kn (fun w h => h) (by decide +kernel) rfl (fun av h Q hw => ?_) ?_
  · unfold wX1_tells at hw
    split at hw
    · exact Nat.le_of_ble_eq_true rfl
    · exact hw.elim
  · intro p e s m below meth c av h Q hxt G hw
    unfold wX1_tells at hw
    split at hw
    · exact tX1_tells_0 EN G ⟨rfl, rfl⟩ rfl hxt _ _ _ hw
    · exact hw.elim
/-! ChantRules.arc(IIIIII)I (X0_arc) -/
theorem nmk_81 : nm_ok yX0_refused 1 := ⟨by decide +kernel, by decide +kernel, by decide +kernel⟩
theorem nmk_82 : nm_ok yX1_copy 0 := ⟨by decide +kernel, by decide +kernel, by decide +kernel⟩
theorem ct_5 : ∀ c ∈ [9], (c, "ChantRules$Refused") ∈ ctab ∧ c < 23 := by decide +kernel
theorem nmk_83 : nm_ok yX0_arcOf 5 := ⟨by decide +kernel, by decide +kernel, by decide +kernel⟩
theorem nmk_84 : nm_ok yX1_tells 2 := ⟨by decide +kernel, by decide +kernel, by decide +kernel⟩
theorem nmk_85 : nm_ok yX0_changed 2 := ⟨by decide +kernel, by decide +kernel, by decide +kernel⟩
theorem nmk_86 : nm_ok yX0_areSounds 2 := ⟨by decide +kernel, by decide +kernel, by decide +kernel⟩
theorem nmk_87 : nm_ok yX0_isWeight 1 := ⟨by decide +kernel, by decide +kernel, by decide +kernel⟩
theorem nmk_88 : nm_ok yX1_isState 2 := ⟨by decide +kernel, by decide +kernel, by decide +kernel⟩
def bX0_arc_83 (E : Nat → Value) (Q : Rs → HS → Prop) : Ct :=
  o_astore 8 <|
  o_aload 0 <|
  o_aload 8 <|
  o_callV [0] 2 (wX0_refused E) (x_out Q) <|
  o_ireturn .int Q
def bX0_arc_48 (E : Nat → Value) (Q : Rs → HS → Prop) : Ct :=
  o_aload 0 <|
  o_getf [0] 1 <|
  o_callV [1] 1 (wX1_copy E) (x_out Q) <|
  o_astore 7 <|
  o_aload 0 <|
  o_aload 7 <|
  o_aload 0 <|
  o_getf [0] 1 <|
  o_iload 1 <|
  o_iload 2 <|
  o_iload 3 <|
  o_iload 4 <|
  o_iload 5 <|
  o_iload 6 <|
  o_call 5 (wX0_arcOf E) (x_catch [9] (bX0_arc_83 E Q) x_no) <|
  o_callV [1] 3 (wX1_tells E) (x_catch [9] (bX0_arc_83 E Q) x_no) <|
  o_callV [0] 3 (wX0_changed E) (x_catch [9] (bX0_arc_83 E Q) x_no) <|
  o_ireturn .int Q
def bX0_arc_45 (E : Nat → Value) (Q : Rs → HS → Prop) : Ct :=
  o_push (.int (-12)) <|
  o_ireturn .int Q
def bX0_arc_27 (E : Nat → Value) (Q : Rs → HS → Prop) : Ct :=
  o_iload 4 <|
  o_iload 5 <|
  o_call 2 (wX0_areSounds E) (x_out Q) <|
  o_ifeq (bX0_arc_45 E Q) <|
  o_iload 6 <|
  o_call 1 (wX0_isWeight E) (x_out Q) <|
  o_ifne (bX0_arc_48 E Q) <|
  (bX0_arc_45 E Q)
def bX0_arc_24 (E : Nat → Value) (Q : Rs → HS → Prop) : Ct :=
  o_push (.int (-11)) <|
  o_ireturn .int Q
def bX0_arc_0 (E : Nat → Value) (Q : Rs → HS → Prop) : Ct :=
  o_aload 0 <|
  o_getf [0] 1 <|
  o_iload 1 <|
  o_iload 2 <|
  o_callV [1] 3 (wX1_isState E) (x_out Q) <|
  o_ifeq (bX0_arc_24 E Q) <|
  o_aload 0 <|
  o_getf [0] 1 <|
  o_iload 1 <|
  o_iload 3 <|
  o_callV [1] 3 (wX1_isState E) (x_out Q) <|
  o_ifne (bX0_arc_27 E Q) <|
  (bX0_arc_24 E Q)
def wX0_arc (E : Nat → Value) : Wp := fun av h Q => match av with
  | [a0, a1, a2, a3, a4, a5, a6] => bX0_arc_0 E Q [a0, a1, a2, a3, a4, a5, a6, jk, jk] [] h
  | _ => False
set_option maxHeartbeats 4000000 in
theorem tX0_arc_83 {x : CX} {E : Nat → Value} {Q : Rs → HS → Prop} (EN : EX x E) (G : Gd x cX0_arc "ChantRules" yX0_arc 9 (Option.some Jvm.ClassFile.FieldType.int) Q) (hF : x.1.2.2.2.frames = 16 ∧ x.1.2.2.2.locals = 376) (hC : x.2.2.2.2.2 = (fun _ => false)) (hxt : (x.2.2.1.2.1.exceptionTable.toList = tableOf [(57, 82, 83, 60)])) : Snd x 83 (bX0_arc_83 E Q) := by
  unfold bX0_arc_83
  refine s_astore G.b (by rw [G.nl]; decide) (fun _ _ => by rw [hC]) dX0_arc_83 ?_
  refine s_aload_n rfl G.b dX0_arc_85 ?_
  refine s_aload G.b dX0_arc_86 ?_
  refine s_callV G (mX0_refused EN) q588 q590 (sel_cons (r := (RX0, TX0, 10)) (by decide) rfl qs7 (sel_nil)) q76 q591 nmk_81 (rm_of hF (Nat.le_of_ble_eq_true rfl) (Nat.le_of_ble_eq_true rfl)) dX0_arc_88 ?_ (sx_out G (by rw [hxt]; decide +kernel))
  exact s_ireturn G dX0_arc_91
set_option maxHeartbeats 4000000 in
theorem tX0_arc_48 {x : CX} {E : Nat → Value} {Q : Rs → HS → Prop} (EN : EX x E) (G : Gd x cX0_arc "ChantRules" yX0_arc 9 (Option.some Jvm.ClassFile.FieldType.int) Q) (hF : x.1.2.2.2.frames = 16 ∧ x.1.2.2.2.locals = 376) (hC : x.2.2.2.2.2 = (fun _ => false)) (hxt : (x.2.2.1.2.1.exceptionTable.toList = tableOf [(57, 82, 83, 60)])) : Snd x 48 (bX0_arc_48 E Q) := by
  unfold bX0_arc_48
  refine s_aload_n rfl G.b dX0_arc_48 ?_
  refine s_getf G.b G.ow G.kn (G.hts _ q300) (fun _ h => h) fa_11 dX0_arc_49 ?_
  refine s_callV G (mX1_copy EN) q342 q343 (sel_cons (r := (RX1, TX1, 4)) (by decide) rfl q344 (sel_nil)) q77 q345 nmk_82 (rm_of hF (Nat.le_of_ble_eq_true rfl) (Nat.le_of_ble_eq_true rfl)) dX0_arc_52 ?_ (sx_out G (by rw [hxt]; decide +kernel))
  refine s_astore G.b (by rw [G.nl]; decide) (fun _ _ => by rw [hC]) dX0_arc_55 ?_
  refine s_aload_n rfl G.b dX0_arc_57 ?_
  refine s_aload G.b dX0_arc_58 ?_
  refine s_aload_n rfl G.b dX0_arc_60 ?_
  refine s_getf G.b G.ow G.kn (G.hts _ q300) (fun _ h => h) fa_11 dX0_arc_61 ?_
  refine s_iload_n rfl G.b dX0_arc_64 ?_
  refine s_iload_n rfl G.b dX0_arc_65 ?_
  refine s_iload_n rfl G.b dX0_arc_66 ?_
  refine s_iload G.b dX0_arc_67 ?_
  refine s_iload G.b dX0_arc_69 ?_
  refine s_iload G.b dX0_arc_71 ?_
  refine s_callS G (mX0_arcOf EN) q630 q631 q76 q632 nmk_83 (rm_of hF (Nat.le_of_ble_eq_true rfl) (Nat.le_of_ble_eq_true rfl)) dX0_arc_73 ?_ (sx_catch G [] (⟨57, 82, 83, 60⟩ : ExceptionTableEntry) [] (by rw [hxt]; rfl) (fun w hw => nomatch hw) (by decide +kernel) (by decide) q335 ct_5 (tX0_arc_83 EN G hF hC hxt) sx_no)
  refine s_callV G (mX1_tells EN) q680 q681 (sel_cons (r := (RX1, TX1, 4)) (by decide) rfl q682 (sel_nil)) q77 q683 nmk_84 (rm_of hF (Nat.le_of_ble_eq_true rfl) (Nat.le_of_ble_eq_true rfl)) dX0_arc_76 ?_ (sx_catch G [] (⟨57, 82, 83, 60⟩ : ExceptionTableEntry) [] (by rw [hxt]; rfl) (fun w hw => nomatch hw) (by decide +kernel) (by decide) q335 ct_5 (tX0_arc_83 EN G hF hC hxt) sx_no)
  refine s_callV G (mX0_changed EN) q547 q549 (sel_cons (r := (RX0, TX0, 10)) (by decide) rfl qs4 (sel_nil)) q76 q550 nmk_85 (rm_of hF (Nat.le_of_ble_eq_true rfl) (Nat.le_of_ble_eq_true rfl)) dX0_arc_79 ?_ (sx_catch G [] (⟨57, 82, 83, 60⟩ : ExceptionTableEntry) [] (by rw [hxt]; rfl) (fun w hw => nomatch hw) (by decide +kernel) (by decide) q335 ct_5 (tX0_arc_83 EN G hF hC hxt) sx_no)
  exact s_ireturn G dX0_arc_82
set_option maxHeartbeats 4000000 in
theorem tX0_arc_45 {x : CX} {E : Nat → Value} {Q : Rs → HS → Prop} (EN : EX x E) (G : Gd x cX0_arc "ChantRules" yX0_arc 9 (Option.some Jvm.ClassFile.FieldType.int) Q) (hF : x.1.2.2.2.frames = 16 ∧ x.1.2.2.2.locals = 376) (hC : x.2.2.2.2.2 = (fun _ => false)) (hxt : (x.2.2.1.2.1.exceptionTable.toList = tableOf [(57, 82, 83, 60)])) : Snd x 45 (bX0_arc_45 E Q) := by
  unfold bX0_arc_45
  refine s_bipush (by decide) G.b dX0_arc_45 ?_
  exact s_ireturn G dX0_arc_47
set_option maxHeartbeats 4000000 in
theorem tX0_arc_27 {x : CX} {E : Nat → Value} {Q : Rs → HS → Prop} (EN : EX x E) (G : Gd x cX0_arc "ChantRules" yX0_arc 9 (Option.some Jvm.ClassFile.FieldType.int) Q) (hF : x.1.2.2.2.frames = 16 ∧ x.1.2.2.2.locals = 376) (hC : x.2.2.2.2.2 = (fun _ => false)) (hxt : (x.2.2.1.2.1.exceptionTable.toList = tableOf [(57, 82, 83, 60)])) : Snd x 27 (bX0_arc_27 E Q) := by
  unfold bX0_arc_27
  refine s_iload G.b dX0_arc_27 ?_
  refine s_iload G.b dX0_arc_29 ?_
  refine s_callS G (mX0_areSounds EN) q627 q628 q76 q629 nmk_86 (rm_of hF (Nat.le_of_ble_eq_true rfl) (Nat.le_of_ble_eq_true rfl)) dX0_arc_31 ?_ (sx_out G (by rw [hxt]; decide +kernel))
  refine s_ifeq (tgt := 45) G.b dX0_arc_34 (by decide) (tX0_arc_45 EN G hF hC hxt) ?_
  refine s_iload G.b dX0_arc_37 ?_
  refine s_callS G (mX0_isWeight EN) q612 q613 q76 q614 nmk_87 (rm_of hF (Nat.le_of_ble_eq_true rfl) (Nat.le_of_ble_eq_true rfl)) dX0_arc_39 ?_ (sx_out G (by rw [hxt]; decide +kernel))
  refine s_ifne (tgt := 48) G.b dX0_arc_42 (by decide) (tX0_arc_48 EN G hF hC hxt) ?_
  exact (tX0_arc_45 EN G hF hC hxt)
set_option maxHeartbeats 4000000 in
theorem tX0_arc_24 {x : CX} {E : Nat → Value} {Q : Rs → HS → Prop} (EN : EX x E) (G : Gd x cX0_arc "ChantRules" yX0_arc 9 (Option.some Jvm.ClassFile.FieldType.int) Q) (hF : x.1.2.2.2.frames = 16 ∧ x.1.2.2.2.locals = 376) (hC : x.2.2.2.2.2 = (fun _ => false)) (hxt : (x.2.2.1.2.1.exceptionTable.toList = tableOf [(57, 82, 83, 60)])) : Snd x 24 (bX0_arc_24 E Q) := by
  unfold bX0_arc_24
  refine s_bipush (by decide) G.b dX0_arc_24 ?_
  exact s_ireturn G dX0_arc_26
set_option maxHeartbeats 4000000 in
theorem tX0_arc_0 {x : CX} {E : Nat → Value} {Q : Rs → HS → Prop} (EN : EX x E) (G : Gd x cX0_arc "ChantRules" yX0_arc 9 (Option.some Jvm.ClassFile.FieldType.int) Q) (hF : x.1.2.2.2.frames = 16 ∧ x.1.2.2.2.locals = 376) (hC : x.2.2.2.2.2 = (fun _ => false)) (hxt : (x.2.2.1.2.1.exceptionTable.toList = tableOf [(57, 82, 83, 60)])) : Snd x 0 (bX0_arc_0 E Q) := by
  unfold bX0_arc_0
  refine s_aload_n rfl G.b dX0_arc_0 ?_
  refine s_getf G.b G.ow G.kn (G.hts _ q300) (fun _ h => h) fa_11 dX0_arc_1 ?_
  refine s_iload_n rfl G.b dX0_arc_4 ?_
  refine s_iload_n rfl G.b dX0_arc_5 ?_
  refine s_callV G (mX1_isState EN) q602 q603 (sel_cons (r := (RX1, TX1, 4)) (by decide) rfl q604 (sel_nil)) q77 q605 nmk_88 (rm_of hF (Nat.le_of_ble_eq_true rfl) (Nat.le_of_ble_eq_true rfl)) dX0_arc_6 ?_ (sx_out G (by rw [hxt]; decide +kernel))
  refine s_ifeq (tgt := 24) G.b dX0_arc_9 (by decide) (tX0_arc_24 EN G hF hC hxt) ?_
  refine s_aload_n rfl G.b dX0_arc_12 ?_
  refine s_getf G.b G.ow G.kn (G.hts _ q300) (fun _ h => h) fa_11 dX0_arc_13 ?_
  refine s_iload_n rfl G.b dX0_arc_16 ?_
  refine s_iload_n rfl G.b dX0_arc_17 ?_
  refine s_callV G (mX1_isState EN) q602 q603 (sel_cons (r := (RX1, TX1, 4)) (by decide) rfl q604 (sel_nil)) q77 q605 nmk_88 (rm_of hF (Nat.le_of_ble_eq_true rfl) (Nat.le_of_ble_eq_true rfl)) dX0_arc_18 ?_ (sx_out G (by rw [hxt]; decide +kernel))
  refine s_ifne (tgt := 27) G.b dX0_arc_21 (by decide) (tX0_arc_27 EN G hF hC hxt) ?_
  exact (tX0_arc_24 EN G hF hC hxt)
set_option maxHeartbeats 4000000 in
theorem mX0_arc {l : Launch} {D : DE} {s0 : State} {E : Nat → Value} (EN : EV l D s0 E) : rMet l D s0 yX0_arc (wsW_ yX0_arc cX0_arc 9 (Option.some Jvm.ClassFile.FieldType.int) [(57, 82, 83, 60)]) 16 376 (wX0_arc E) := by
  refine body_metW (fun _ => false) EN.kn (fun w h => h) (by decide +kernel) rfl (fun av h Q hw => ?_) ?_
  · unfold wX0_arc at hw
    split at hw
    · exact Nat.le_of_ble_eq_true rfl
    · exact hw.elim
  · intro p e s m below meth c av h Q hxt G hw
    unfold wX0_arc at hw
    split at hw
    · exact tX0_arc_0 EN G ⟨rfl, rfl⟩ rfl hxt _ _ _ hw
    · exact hw.elim
/-! ChantRules$Rule.isArc(I)Z (X3_isArc) -/
def bX3_isArc_0 (E : Nat → Value) (Q : Rs → HS → Prop) : Ct :=
  o_iload 1 <|
  o_push (.int 0) <|
  o_aload 0 <|
  o_getf [2] 0 <|
  o_callV [15] 1 (wJ2_size E) (x_out Q) <|
  o_push (.int 1) <|
  o_isub <|
  o_call 3 (wX0_isIn E) (x_out Q) <|
  o_ireturn .boolean Q
def wX3_isArc (E : Nat → Value) : Wp := fun av h Q => match av with
  | [a0, a1] => bX3_isArc_0 E Q [a0, a1] [] h
  | _ => False
set_option maxHeartbeats 4000000 in
theorem tX3_isArc_0 {x : CX} {E : Nat → Value} {Q : Rs → HS → Prop} (EN : EX x E) (G : Gd x cX3_isArc "ChantRules$Rule" yX3_isArc 2 (Option.some Jvm.ClassFile.FieldType.boolean) Q) (hF : x.1.2.2.2.frames = 3 ∧ x.1.2.2.2.locals = 86) (hC : x.2.2.2.2.2 = (fun _ => false)) (hxt : (∀ z ∈ x.2.2.1.2.1.exceptionTable.toList, False)) : Snd x 0 (bX3_isArc_0 E Q) := by
  unfold bX3_isArc_0
  refine s_iload_n rfl G.b dX3_isArc_0 ?_
  refine s_iconst (by decide) G.b dX3_isArc_1 ?_
  refine s_aload_n rfl G.b dX3_isArc_2 ?_
  refine s_getf G.b G.ow G.kn (G.hts _ q175) (fun _ h => h) fa_3 dX3_isArc_3 ?_
  refine s_callV G (mJ2_size EN) q688 q689 (sel_cons (r := (RJ2, TJ2, 3)) (by decide) rfl q690 (sel_nil)) q82 q691 nmk_28 (rm_of hF (Nat.le_of_ble_eq_true rfl) (Nat.le_of_ble_eq_true rfl)) dX3_isArc_6 ?_ (sx_out G (fun z hz => (hxt z hz).elim))
  refine s_iconst (by decide) G.b dX3_isArc_9 ?_
  refine s_isub G.b dX3_isArc_10 ?_
  refine s_callSN G (mX0_isIn EN) (va_Nw.use rfl (va_Nw.warmM G.warm (EN.nw q611 rfl))) q340 q76 q341 nmk_50 (rm_of hF (Nat.le_of_ble_eq_true rfl) (Nat.le_of_ble_eq_true rfl)) dX3_isArc_11 ?_ (sx_out G (fun z hz => (hxt z hz).elim))
  exact s_ireturn G dX3_isArc_14
set_option maxHeartbeats 4000000 in
theorem mX3_isArc {l : Launch} {D : DE} {s0 : State} {E : Nat → Value} (EN : EV l D s0 E) : rMet l D s0 yX3_isArc (ws_ yX3_isArc cX3_isArc 2 (Option.some Jvm.ClassFile.FieldType.boolean)) 3 86 (wX3_isArc E) := by
  refine body_met (fun _ => false) EN.kn (fun w h => h) (by decide +kernel) rfl (fun av h Q hw => ?_) ?_
  · unfold wX3_isArc at hw
    split at hw
    · exact Nat.le_of_ble_eq_true rfl
    · exact hw.elim
  · intro p e s m below meth c av h Q hxt G hw
    unfold wX3_isArc at hw
    split at hw
    · exact tX3_isArc_0 EN G ⟨rfl, rfl⟩ rfl hxt _ _ _ hw
    · exact hw.elim
/-! ChantRules$Choir.isArc(II)Z (X1_isArc) -/
theorem nmk_89 : nm_ok yX3_isArc 1 := ⟨by decide +kernel, by decide +kernel, by decide +kernel⟩
def bX1_isArc_25 (E : Nat → Value) (Q : Rs → HS → Prop) : Ct :=
  o_ireturn .boolean Q
def bX1_isArc_24 (E : Nat → Value) (Q : Rs → HS → Prop) : Ct :=
  o_push (.int 0) <|
  (bX1_isArc_25 E Q)
def bX1_isArc_0 (E : Nat → Value) (Q : Rs → HS → Prop) : Ct :=
  o_iload 1 <|
  o_call 1 (wX0_isRule E) (x_out Q) <|
  o_ifeq (bX1_isArc_24 E Q) <|
  o_aload 0 <|
  o_getf [1] 0 <|
  o_iload 1 <|
  o_ald [103, 104, 105, 106, 107] <|
  o_iload 2 <|
  o_callV [2] 2 (wX3_isArc E) (x_out Q) <|
  o_ifeq (bX1_isArc_24 E Q) <|
  o_push (.int 1) <|
  (bX1_isArc_25 E Q)
def wX1_isArc (E : Nat → Value) : Wp := fun av h Q => match av with
  | [a0, a1, a2] => bX1_isArc_0 E Q [a0, a1, a2] [] h
  | _ => False
set_option maxHeartbeats 4000000 in
theorem tX1_isArc_25 {x : CX} {E : Nat → Value} {Q : Rs → HS → Prop} (EN : EX x E) (G : Gd x cX1_isArc "ChantRules$Choir" yX1_isArc 3 (Option.some Jvm.ClassFile.FieldType.boolean) Q) (hF : x.1.2.2.2.frames = 4 ∧ x.1.2.2.2.locals = 107) (hC : x.2.2.2.2.2 = (fun _ => false)) (hxt : (∀ z ∈ x.2.2.1.2.1.exceptionTable.toList, False)) : Snd x 25 (bX1_isArc_25 E Q) := by
  unfold bX1_isArc_25
  exact s_ireturn G dX1_isArc_25
set_option maxHeartbeats 4000000 in
theorem tX1_isArc_24 {x : CX} {E : Nat → Value} {Q : Rs → HS → Prop} (EN : EX x E) (G : Gd x cX1_isArc "ChantRules$Choir" yX1_isArc 3 (Option.some Jvm.ClassFile.FieldType.boolean) Q) (hF : x.1.2.2.2.frames = 4 ∧ x.1.2.2.2.locals = 107) (hC : x.2.2.2.2.2 = (fun _ => false)) (hxt : (∀ z ∈ x.2.2.1.2.1.exceptionTable.toList, False)) : Snd x 24 (bX1_isArc_24 E Q) := by
  unfold bX1_isArc_24
  refine s_iconst (by decide) G.b dX1_isArc_24 ?_
  exact (tX1_isArc_25 EN G hF hC hxt)
set_option maxHeartbeats 4000000 in
theorem tX1_isArc_0 {x : CX} {E : Nat → Value} {Q : Rs → HS → Prop} (EN : EX x E) (G : Gd x cX1_isArc "ChantRules$Choir" yX1_isArc 3 (Option.some Jvm.ClassFile.FieldType.boolean) Q) (hF : x.1.2.2.2.frames = 4 ∧ x.1.2.2.2.locals = 107) (hC : x.2.2.2.2.2 = (fun _ => false)) (hxt : (∀ z ∈ x.2.2.1.2.1.exceptionTable.toList, False)) : Snd x 0 (bX1_isArc_0 E Q) := by
  unfold bX1_isArc_0
  refine s_iload_n rfl G.b dX1_isArc_0 ?_
  refine s_callSN G (mX0_isRule EN) (va_Nw.use rfl (va_Nw.warmM G.warm (EN.nw q606 rfl))) q337 q76 q338 nmk_66 (rm_of hF (Nat.le_of_ble_eq_true rfl) (Nat.le_of_ble_eq_true rfl)) dX1_isArc_1 ?_ (sx_out G (fun z hz => (hxt z hz).elim))
  refine s_ifeq (tgt := 24) G.b dX1_isArc_4 (by decide) (tX1_isArc_24 EN G hF hC hxt) ?_
  refine s_aload_n rfl G.b dX1_isArc_7 ?_
  refine s_getf G.b G.ow G.kn (G.hts _ q192) (fun _ h => h) fa_5 dX1_isArc_8 ?_
  refine s_iload_n rfl G.b dX1_isArc_11 ?_
  refine s_aald G.b G.kn dX1_isArc_12 ?_
  refine s_iload_n rfl G.b dX1_isArc_13 ?_
  refine s_callV G (mX3_isArc EN) q759 q760 (sel_cons (r := (RX3, TX3, 3)) (by decide) rfl q761 (sel_nil)) q79 q762 nmk_89 (rm_of hF (Nat.le_of_ble_eq_true rfl) (Nat.le_of_ble_eq_true rfl)) dX1_isArc_14 ?_ (sx_out G (fun z hz => (hxt z hz).elim))
  refine s_ifeq (tgt := 24) G.b dX1_isArc_17 (by decide) (tX1_isArc_24 EN G hF hC hxt) ?_
  refine s_iconst (by decide) G.b dX1_isArc_20 ?_
  exact s_goto (tgt := 25) G.b dX1_isArc_21 (by decide) (tX1_isArc_25 EN G hF hC hxt)
set_option maxHeartbeats 4000000 in
theorem mX1_isArc {l : Launch} {D : DE} {s0 : State} {E : Nat → Value} (EN : EV l D s0 E) : rMet l D s0 yX1_isArc (ws_ yX1_isArc cX1_isArc 3 (Option.some Jvm.ClassFile.FieldType.boolean)) 4 107 (wX1_isArc E) := by
  refine body_met (fun _ => false) EN.kn (fun w h => h) (by decide +kernel) rfl (fun av h Q hw => ?_) ?_
  · unfold wX1_isArc at hw
    split at hw
    · exact Nat.le_of_ble_eq_true rfl
    · exact hw.elim
  · intro p e s m below meth c av h Q hxt G hw
    unfold wX1_isArc at hw
    split at hw
    · exact tX1_isArc_0 EN G ⟨rfl, rfl⟩ rfl hxt _ _ _ hw
    · exact hw.elim
/-! ChantRules$Rule.ofArc(II)I (X3_ofArc) -/
def bX3_ofArc_95 (E : Nat → Value) (Q : Rs → HS → Prop) : Ct :=
  o_ireturn .int Q
def bX3_ofArc_93 (E : Nat → Value) (Q : Rs → HS → Prop) : Ct :=
  o_push (.int (-12)) <|
  (bX3_ofArc_95 E Q)
def bX3_ofArc_90 (E : Nat → Value) (Q : Rs → HS → Prop) : Ct :=
  (bX3_ofArc_95 E Q)
def bX3_ofArc_84 (E : Nat → Value) (Q : Rs → HS → Prop) : Ct :=
  o_aload 3 <|
  o_vsel 1 [10] (o_callV [10] 1 (wX7_weight E) (x_out Q) (bX3_ofArc_90 E Q)) (o_callV [11] 1 (wX8_weight E) (x_out Q) (bX3_ofArc_90 E Q))
def bX3_ofArc_81 (E : Nat → Value) (Q : Rs → HS → Prop) : Ct :=
  (bX3_ofArc_95 E Q)
def bX3_ofArc_75 (E : Nat → Value) (Q : Rs → HS → Prop) : Ct :=
  o_aload 3 <|
  o_vsel 1 [10] (o_callV [10] 1 (wX7_sings E) (x_out Q) (bX3_ofArc_81 E Q)) (o_callV [11] 1 (wX8_sings E) (x_out Q) (bX3_ofArc_81 E Q))
def bX3_ofArc_72 (E : Nat → Value) (Q : Rs → HS → Prop) : Ct :=
  (bX3_ofArc_95 E Q)
def bX3_ofArc_66 (E : Nat → Value) (Q : Rs → HS → Prop) : Ct :=
  o_aload 3 <|
  o_vsel 1 [10] (o_callV [10] 1 (wX7_hears E) (x_out Q) (bX3_ofArc_72 E Q)) (o_callV [11] 1 (wX8_hears E) (x_out Q) (bX3_ofArc_72 E Q))
def bX3_ofArc_63 (E : Nat → Value) (Q : Rs → HS → Prop) : Ct :=
  (bX3_ofArc_95 E Q)
def bX3_ofArc_57 (E : Nat → Value) (Q : Rs → HS → Prop) : Ct :=
  o_aload 3 <|
  o_vsel 1 [10] (o_callV [10] 1 (wX7_to E) (x_out Q) (bX3_ofArc_63 E Q)) (o_callV [11] 1 (wX8_to E) (x_out Q) (bX3_ofArc_63 E Q))
def bX3_ofArc_54 (E : Nat → Value) (Q : Rs → HS → Prop) : Ct :=
  (bX3_ofArc_95 E Q)
def bX3_ofArc_48 (E : Nat → Value) (Q : Rs → HS → Prop) : Ct :=
  o_aload 3 <|
  o_vsel 1 [10] (o_callV [10] 1 (wX7_from E) (x_out Q) (bX3_ofArc_54 E Q)) (o_callV [11] 1 (wX8_from E) (x_out Q) (bX3_ofArc_54 E Q))
def bX3_ofArc_0 (E : Nat → Value) (Q : Rs → HS → Prop) : Ct :=
  o_aload 0 <|
  o_getf [2] 0 <|
  o_iload 1 <|
  o_callV [15] 2 (wJ2_get E) (x_out Q) <|
  o_cast [10, 11] <|
  o_astore 3 <|
  o_iload 2 <|
  o_sw [(0, (bX3_ofArc_48 E Q)), (1, (bX3_ofArc_57 E Q)), (2, (bX3_ofArc_66 E Q)), (3, (bX3_ofArc_75 E Q)), (4, (bX3_ofArc_84 E Q))] (bX3_ofArc_93 E Q)
def wX3_ofArc (E : Nat → Value) : Wp := fun av h Q => match av with
  | [a0, a1, a2] => bX3_ofArc_0 E Q [a0, a1, a2, jk] [] h
  | _ => False
set_option maxHeartbeats 4000000 in
theorem tX3_ofArc_95 {x : CX} {E : Nat → Value} {Q : Rs → HS → Prop} (EN : EX x E) (G : Gd x cX3_ofArc "ChantRules$Rule" yX3_ofArc 4 (Option.some Jvm.ClassFile.FieldType.int) Q) (hF : x.1.2.2.2.frames = 5 ∧ x.1.2.2.2.locals = 128) (hC : x.2.2.2.2.2 = (fun _ => false)) (hxt : (∀ z ∈ x.2.2.1.2.1.exceptionTable.toList, False)) : Snd x 95 (bX3_ofArc_95 E Q) := by
  unfold bX3_ofArc_95
  exact s_ireturn G dX3_ofArc_95
set_option maxHeartbeats 4000000 in
theorem tX3_ofArc_93 {x : CX} {E : Nat → Value} {Q : Rs → HS → Prop} (EN : EX x E) (G : Gd x cX3_ofArc "ChantRules$Rule" yX3_ofArc 4 (Option.some Jvm.ClassFile.FieldType.int) Q) (hF : x.1.2.2.2.frames = 5 ∧ x.1.2.2.2.locals = 128) (hC : x.2.2.2.2.2 = (fun _ => false)) (hxt : (∀ z ∈ x.2.2.1.2.1.exceptionTable.toList, False)) : Snd x 93 (bX3_ofArc_93 E Q) := by
  unfold bX3_ofArc_93
  refine s_bipush (by decide) G.b dX3_ofArc_93 ?_
  exact (tX3_ofArc_95 EN G hF hC hxt)
set_option maxHeartbeats 4000000 in
theorem tX3_ofArc_90 {x : CX} {E : Nat → Value} {Q : Rs → HS → Prop} (EN : EX x E) (G : Gd x cX3_ofArc "ChantRules$Rule" yX3_ofArc 4 (Option.some Jvm.ClassFile.FieldType.int) Q) (hF : x.1.2.2.2.frames = 5 ∧ x.1.2.2.2.locals = 128) (hC : x.2.2.2.2.2 = (fun _ => false)) (hxt : (∀ z ∈ x.2.2.1.2.1.exceptionTable.toList, False)) : Snd x 90 (bX3_ofArc_90 E Q) := by
  unfold bX3_ofArc_90
  exact s_goto (tgt := 95) G.b dX3_ofArc_90 (by decide) (tX3_ofArc_95 EN G hF hC hxt)
set_option maxHeartbeats 4000000 in
theorem tX3_ofArc_84 {x : CX} {E : Nat → Value} {Q : Rs → HS → Prop} (EN : EX x E) (G : Gd x cX3_ofArc "ChantRules$Rule" yX3_ofArc 4 (Option.some Jvm.ClassFile.FieldType.int) Q) (hF : x.1.2.2.2.frames = 5 ∧ x.1.2.2.2.locals = 128) (hC : x.2.2.2.2.2 = (fun _ => false)) (hxt : (∀ z ∈ x.2.2.1.2.1.exceptionTable.toList, False)) : Snd x 84 (bX3_ofArc_84 E Q) := by
  unfold bX3_ofArc_84
  refine s_aload_n rfl G.b dX3_ofArc_84 ?_
  exact (s_vsel (s_callF (r0 := (RX7, TX7, 4)) (w := ⟨"ChantRules$Arc", "weight", "()I"⟩) (by decide) rfl G (mX7_weight EN) q768 (va_Fw.moved (by decide +kernel) G.warm.alike ⟨(EN.nw q770 rfl), (EN.nw q769 rfl), (EN.nw q774 rfl), (EN.nw q772 rfl), (EN.nw q287 rfl)⟩) q771 q773 q99 q775 nmk_17 (rm_of hF (Nat.le_of_ble_eq_true rfl) (Nat.le_of_ble_eq_true rfl)) dX3_ofArc_85 (tX3_ofArc_90 EN G hF hC hxt) (sx_out G (fun z hz => (hxt z hz).elim)) ) (s_callF (r0 := (RX8, TX8, 5)) (w := ⟨"ChantRules$Arc", "weight", "()I"⟩) (by decide) rfl G (mX8_weight EN) q768 (va_Fw.moved (by decide +kernel) G.warm.alike ⟨(EN.nw q770 rfl), (EN.nw q769 rfl), (EN.nw q779 rfl), (EN.nw q777 rfl), (EN.nw q293 rfl)⟩) q776 q778 q100 q780 nmk_17 (rm_of hF (Nat.le_of_ble_eq_true rfl) (Nat.le_of_ble_eq_true rfl)) dX3_ofArc_85 (tX3_ofArc_90 EN G hF hC hxt) (sx_out G (fun z hz => (hxt z hz).elim)) ))
set_option maxHeartbeats 4000000 in
theorem tX3_ofArc_81 {x : CX} {E : Nat → Value} {Q : Rs → HS → Prop} (EN : EX x E) (G : Gd x cX3_ofArc "ChantRules$Rule" yX3_ofArc 4 (Option.some Jvm.ClassFile.FieldType.int) Q) (hF : x.1.2.2.2.frames = 5 ∧ x.1.2.2.2.locals = 128) (hC : x.2.2.2.2.2 = (fun _ => false)) (hxt : (∀ z ∈ x.2.2.1.2.1.exceptionTable.toList, False)) : Snd x 81 (bX3_ofArc_81 E Q) := by
  unfold bX3_ofArc_81
  exact s_goto (tgt := 95) G.b dX3_ofArc_81 (by decide) (tX3_ofArc_95 EN G hF hC hxt)
set_option maxHeartbeats 4000000 in
theorem tX3_ofArc_75 {x : CX} {E : Nat → Value} {Q : Rs → HS → Prop} (EN : EX x E) (G : Gd x cX3_ofArc "ChantRules$Rule" yX3_ofArc 4 (Option.some Jvm.ClassFile.FieldType.int) Q) (hF : x.1.2.2.2.frames = 5 ∧ x.1.2.2.2.locals = 128) (hC : x.2.2.2.2.2 = (fun _ => false)) (hxt : (∀ z ∈ x.2.2.1.2.1.exceptionTable.toList, False)) : Snd x 75 (bX3_ofArc_75 E Q) := by
  unfold bX3_ofArc_75
  refine s_aload_n rfl G.b dX3_ofArc_75 ?_
  exact (s_vsel (s_callF (r0 := (RX7, TX7, 4)) (w := ⟨"ChantRules$Arc", "sings", "()I"⟩) (by decide) rfl G (mX7_sings EN) q824 (va_Fw.moved (by decide +kernel) G.warm.alike ⟨(EN.nw q740 rfl), (EN.nw q739 rfl), (EN.nw q744 rfl), (EN.nw q742 rfl), (EN.nw q287 rfl)⟩) q741 q743 q99 q745 nmk_68 (rm_of hF (Nat.le_of_ble_eq_true rfl) (Nat.le_of_ble_eq_true rfl)) dX3_ofArc_76 (tX3_ofArc_81 EN G hF hC hxt) (sx_out G (fun z hz => (hxt z hz).elim)) ) (s_callF (r0 := (RX8, TX8, 5)) (w := ⟨"ChantRules$Arc", "sings", "()I"⟩) (by decide) rfl G (mX8_sings EN) q824 (va_Fw.moved (by decide +kernel) G.warm.alike ⟨(EN.nw q740 rfl), (EN.nw q739 rfl), (EN.nw q749 rfl), (EN.nw q747 rfl), (EN.nw q293 rfl)⟩) q746 q748 q100 q750 nmk_68 (rm_of hF (Nat.le_of_ble_eq_true rfl) (Nat.le_of_ble_eq_true rfl)) dX3_ofArc_76 (tX3_ofArc_81 EN G hF hC hxt) (sx_out G (fun z hz => (hxt z hz).elim)) ))
set_option maxHeartbeats 4000000 in
theorem tX3_ofArc_72 {x : CX} {E : Nat → Value} {Q : Rs → HS → Prop} (EN : EX x E) (G : Gd x cX3_ofArc "ChantRules$Rule" yX3_ofArc 4 (Option.some Jvm.ClassFile.FieldType.int) Q) (hF : x.1.2.2.2.frames = 5 ∧ x.1.2.2.2.locals = 128) (hC : x.2.2.2.2.2 = (fun _ => false)) (hxt : (∀ z ∈ x.2.2.1.2.1.exceptionTable.toList, False)) : Snd x 72 (bX3_ofArc_72 E Q) := by
  unfold bX3_ofArc_72
  exact s_goto (tgt := 95) G.b dX3_ofArc_72 (by decide) (tX3_ofArc_95 EN G hF hC hxt)
set_option maxHeartbeats 4000000 in
theorem tX3_ofArc_66 {x : CX} {E : Nat → Value} {Q : Rs → HS → Prop} (EN : EX x E) (G : Gd x cX3_ofArc "ChantRules$Rule" yX3_ofArc 4 (Option.some Jvm.ClassFile.FieldType.int) Q) (hF : x.1.2.2.2.frames = 5 ∧ x.1.2.2.2.locals = 128) (hC : x.2.2.2.2.2 = (fun _ => false)) (hxt : (∀ z ∈ x.2.2.1.2.1.exceptionTable.toList, False)) : Snd x 66 (bX3_ofArc_66 E Q) := by
  unfold bX3_ofArc_66
  refine s_aload_n rfl G.b dX3_ofArc_66 ?_
  exact (s_vsel (s_callF (r0 := (RX7, TX7, 4)) (w := ⟨"ChantRules$Arc", "hears", "()I"⟩) (by decide) rfl G (mX7_hears EN) q822 (va_Fw.moved (by decide +kernel) G.warm.alike ⟨(EN.nw q286 rfl), (EN.nw q285 rfl), (EN.nw q291 rfl), (EN.nw q289 rfl), (EN.nw q287 rfl)⟩) q288 q290 q99 q292 nmk_20 (rm_of hF (Nat.le_of_ble_eq_true rfl) (Nat.le_of_ble_eq_true rfl)) dX3_ofArc_67 (tX3_ofArc_72 EN G hF hC hxt) (sx_out G (fun z hz => (hxt z hz).elim)) ) (s_callF (r0 := (RX8, TX8, 5)) (w := ⟨"ChantRules$Arc", "hears", "()I"⟩) (by decide) rfl G (mX8_hears EN) q822 (va_Fw.moved (by decide +kernel) G.warm.alike ⟨(EN.nw q286 rfl), (EN.nw q285 rfl), (EN.nw q297 rfl), (EN.nw q295 rfl), (EN.nw q293 rfl)⟩) q294 q296 q100 q298 nmk_20 (rm_of hF (Nat.le_of_ble_eq_true rfl) (Nat.le_of_ble_eq_true rfl)) dX3_ofArc_67 (tX3_ofArc_72 EN G hF hC hxt) (sx_out G (fun z hz => (hxt z hz).elim)) ))
set_option maxHeartbeats 4000000 in
theorem tX3_ofArc_63 {x : CX} {E : Nat → Value} {Q : Rs → HS → Prop} (EN : EX x E) (G : Gd x cX3_ofArc "ChantRules$Rule" yX3_ofArc 4 (Option.some Jvm.ClassFile.FieldType.int) Q) (hF : x.1.2.2.2.frames = 5 ∧ x.1.2.2.2.locals = 128) (hC : x.2.2.2.2.2 = (fun _ => false)) (hxt : (∀ z ∈ x.2.2.1.2.1.exceptionTable.toList, False)) : Snd x 63 (bX3_ofArc_63 E Q) := by
  unfold bX3_ofArc_63
  exact s_goto (tgt := 95) G.b dX3_ofArc_63 (by decide) (tX3_ofArc_95 EN G hF hC hxt)
set_option maxHeartbeats 4000000 in
theorem tX3_ofArc_57 {x : CX} {E : Nat → Value} {Q : Rs → HS → Prop} (EN : EX x E) (G : Gd x cX3_ofArc "ChantRules$Rule" yX3_ofArc 4 (Option.some Jvm.ClassFile.FieldType.int) Q) (hF : x.1.2.2.2.frames = 5 ∧ x.1.2.2.2.locals = 128) (hC : x.2.2.2.2.2 = (fun _ => false)) (hxt : (∀ z ∈ x.2.2.1.2.1.exceptionTable.toList, False)) : Snd x 57 (bX3_ofArc_57 E Q) := by
  unfold bX3_ofArc_57
  refine s_aload_n rfl G.b dX3_ofArc_57 ?_
  exact (s_vsel (s_callF (r0 := (RX7, TX7, 4)) (w := ⟨"ChantRules$Arc", "to", "()I"⟩) (by decide) rfl G (mX7_to EN) q841 (va_Fw.moved (by decide +kernel) G.warm.alike ⟨(EN.nw q726 rfl), (EN.nw q725 rfl), (EN.nw q730 rfl), (EN.nw q728 rfl), (EN.nw q287 rfl)⟩) q727 q729 q99 q731 nmk_69 (rm_of hF (Nat.le_of_ble_eq_true rfl) (Nat.le_of_ble_eq_true rfl)) dX3_ofArc_58 (tX3_ofArc_63 EN G hF hC hxt) (sx_out G (fun z hz => (hxt z hz).elim)) ) (s_callF (r0 := (RX8, TX8, 5)) (w := ⟨"ChantRules$Arc", "to", "()I"⟩) (by decide) rfl G (mX8_to EN) q841 (va_Fw.moved (by decide +kernel) G.warm.alike ⟨(EN.nw q726 rfl), (EN.nw q725 rfl), (EN.nw q735 rfl), (EN.nw q733 rfl), (EN.nw q293 rfl)⟩) q732 q734 q100 q736 nmk_69 (rm_of hF (Nat.le_of_ble_eq_true rfl) (Nat.le_of_ble_eq_true rfl)) dX3_ofArc_58 (tX3_ofArc_63 EN G hF hC hxt) (sx_out G (fun z hz => (hxt z hz).elim)) ))
set_option maxHeartbeats 4000000 in
theorem tX3_ofArc_54 {x : CX} {E : Nat → Value} {Q : Rs → HS → Prop} (EN : EX x E) (G : Gd x cX3_ofArc "ChantRules$Rule" yX3_ofArc 4 (Option.some Jvm.ClassFile.FieldType.int) Q) (hF : x.1.2.2.2.frames = 5 ∧ x.1.2.2.2.locals = 128) (hC : x.2.2.2.2.2 = (fun _ => false)) (hxt : (∀ z ∈ x.2.2.1.2.1.exceptionTable.toList, False)) : Snd x 54 (bX3_ofArc_54 E Q) := by
  unfold bX3_ofArc_54
  exact s_goto (tgt := 95) G.b dX3_ofArc_54 (by decide) (tX3_ofArc_95 EN G hF hC hxt)
set_option maxHeartbeats 4000000 in
theorem tX3_ofArc_48 {x : CX} {E : Nat → Value} {Q : Rs → HS → Prop} (EN : EX x E) (G : Gd x cX3_ofArc "ChantRules$Rule" yX3_ofArc 4 (Option.some Jvm.ClassFile.FieldType.int) Q) (hF : x.1.2.2.2.frames = 5 ∧ x.1.2.2.2.locals = 128) (hC : x.2.2.2.2.2 = (fun _ => false)) (hxt : (∀ z ∈ x.2.2.1.2.1.exceptionTable.toList, False)) : Snd x 48 (bX3_ofArc_48 E Q) := by
  unfold bX3_ofArc_48
  refine s_aload_n rfl G.b dX3_ofArc_48 ?_
  exact (s_vsel (s_callF (r0 := (RX7, TX7, 4)) (w := ⟨"ChantRules$Arc", "from", "()I"⟩) (by decide) rfl G (mX7_from EN) q839 (va_Fw.moved (by decide +kernel) G.warm.alike ⟨(EN.nw q712 rfl), (EN.nw q711 rfl), (EN.nw q716 rfl), (EN.nw q714 rfl), (EN.nw q287 rfl)⟩) q713 q715 q99 q717 nmk_70 (rm_of hF (Nat.le_of_ble_eq_true rfl) (Nat.le_of_ble_eq_true rfl)) dX3_ofArc_49 (tX3_ofArc_54 EN G hF hC hxt) (sx_out G (fun z hz => (hxt z hz).elim)) ) (s_callF (r0 := (RX8, TX8, 5)) (w := ⟨"ChantRules$Arc", "from", "()I"⟩) (by decide) rfl G (mX8_from EN) q839 (va_Fw.moved (by decide +kernel) G.warm.alike ⟨(EN.nw q712 rfl), (EN.nw q711 rfl), (EN.nw q721 rfl), (EN.nw q719 rfl), (EN.nw q293 rfl)⟩) q718 q720 q100 q722 nmk_70 (rm_of hF (Nat.le_of_ble_eq_true rfl) (Nat.le_of_ble_eq_true rfl)) dX3_ofArc_49 (tX3_ofArc_54 EN G hF hC hxt) (sx_out G (fun z hz => (hxt z hz).elim)) ))
set_option maxHeartbeats 4000000 in
theorem tX3_ofArc_0 {x : CX} {E : Nat → Value} {Q : Rs → HS → Prop} (EN : EX x E) (G : Gd x cX3_ofArc "ChantRules$Rule" yX3_ofArc 4 (Option.some Jvm.ClassFile.FieldType.int) Q) (hF : x.1.2.2.2.frames = 5 ∧ x.1.2.2.2.locals = 128) (hC : x.2.2.2.2.2 = (fun _ => false)) (hxt : (∀ z ∈ x.2.2.1.2.1.exceptionTable.toList, False)) : Snd x 0 (bX3_ofArc_0 E Q) := by
  unfold bX3_ofArc_0
  refine s_aload_n rfl G.b dX3_ofArc_0 ?_
  refine s_getf G.b G.ow G.kn (G.hts _ q175) (fun _ h => h) fa_3 dX3_ofArc_1 ?_
  refine s_iload_n rfl G.b dX3_ofArc_4 ?_
  refine s_callV G (mJ2_get EN) q692 q693 (sel_cons (r := (RJ2, TJ2, 3)) (by decide) rfl q694 (sel_nil)) q82 q695 nmk_78 (rm_of hF (Nat.le_of_ble_eq_true rfl) (Nat.le_of_ble_eq_true rfl)) dX3_ofArc_5 ?_ (sx_out G (fun z hz => (hxt z hz).elim))
  refine s_cast G.b G.ow G.kn G.hts q400 ct_1 dX3_ofArc_8 ?_
  refine s_astore_n rfl G.b (by rw [G.nl]; decide) (fun _ _ => by rw [hC]) dX3_ofArc_11 ?_
  refine s_iload_n rfl G.b dX3_ofArc_12 ?_
  exact s_tsw (tD := 93) G.b dX3_ofArc_13 (by decide) (tX3_ofArc_93 EN G hF hC hxt) rfl (tsw_0 (tsw_cons (35) 48 (by decide) rfl (by decide) (tX3_ofArc_48 EN G hF hC hxt) (tsw_cons (44) 57 (by decide) rfl (by decide) (tX3_ofArc_57 EN G hF hC hxt) (tsw_cons (53) 66 (by decide) rfl (by decide) (tX3_ofArc_66 EN G hF hC hxt) (tsw_cons (62) 75 (by decide) rfl (by decide) (tX3_ofArc_75 EN G hF hC hxt) (tsw_cons (71) 84 (by decide) rfl (by decide) (tX3_ofArc_84 EN G hF hC hxt) (tsw_nil)))))))
set_option maxHeartbeats 4000000 in
theorem mX3_ofArc {l : Launch} {D : DE} {s0 : State} {E : Nat → Value} (EN : EV l D s0 E) : rMet l D s0 yX3_ofArc (ws_ yX3_ofArc cX3_ofArc 4 (Option.some Jvm.ClassFile.FieldType.int)) 5 128 (wX3_ofArc E) := by
  refine body_met (fun _ => false) EN.kn (fun w h => h) (by decide +kernel) rfl (fun av h Q hw => ?_) ?_
  · unfold wX3_ofArc at hw
    split at hw
    · exact Nat.le_of_ble_eq_true rfl
    · exact hw.elim
  · intro p e s m below meth c av h Q hxt G hw
    unfold wX3_ofArc at hw
    split at hw
    · exact tX3_ofArc_0 EN G ⟨rfl, rfl⟩ rfl hxt _ _ _ hw
    · exact hw.elim
/-! ChantRules.arcOf(III)I (X0_arcOf_2) -/
theorem nmk_90 : nm_ok yX1_isArc 2 := ⟨by decide +kernel, by decide +kernel, by decide +kernel⟩
theorem nmk_91 : nm_ok yX3_ofArc 2 := ⟨by decide +kernel, by decide +kernel, by decide +kernel⟩
def bX0_arcOf_2_31 (E : Nat → Value) (Q : Rs → HS → Prop) : Ct :=
  o_ireturn .int Q
def bX0_arcOf_2_29 (E : Nat → Value) (Q : Rs → HS → Prop) : Ct :=
  o_push (.int (-11)) <|
  (bX0_arcOf_2_31 E Q)
def bX0_arcOf_2_0 (E : Nat → Value) (Q : Rs → HS → Prop) : Ct :=
  o_aload 0 <|
  o_getf [0] 1 <|
  o_iload 1 <|
  o_iload 2 <|
  o_callV [1] 3 (wX1_isArc E) (x_out Q) <|
  o_ifeq (bX0_arcOf_2_29 E Q) <|
  o_aload 0 <|
  o_getf [0] 1 <|
  o_getf [1] 0 <|
  o_iload 1 <|
  o_ald [103, 104, 105, 106, 107] <|
  o_iload 2 <|
  o_iload 3 <|
  o_callV [2] 3 (wX3_ofArc E) (x_out Q) <|
  (bX0_arcOf_2_31 E Q)
def wX0_arcOf_2 (E : Nat → Value) : Wp := fun av h Q => match av with
  | [a0, a1, a2, a3] => bX0_arcOf_2_0 E Q [a0, a1, a2, a3] [] h
  | _ => False
set_option maxHeartbeats 4000000 in
theorem tX0_arcOf_2_31 {x : CX} {E : Nat → Value} {Q : Rs → HS → Prop} (EN : EX x E) (G : Gd x cX0_arcOf_2 "ChantRules" yX0_arcOf_2 4 (Option.some Jvm.ClassFile.FieldType.int) Q) (hF : x.1.2.2.2.frames = 6 ∧ x.1.2.2.2.locals = 151) (hC : x.2.2.2.2.2 = (fun _ => false)) (hxt : (∀ z ∈ x.2.2.1.2.1.exceptionTable.toList, False)) : Snd x 31 (bX0_arcOf_2_31 E Q) := by
  unfold bX0_arcOf_2_31
  exact s_ireturn G dX0_arcOf_2_31
set_option maxHeartbeats 4000000 in
theorem tX0_arcOf_2_29 {x : CX} {E : Nat → Value} {Q : Rs → HS → Prop} (EN : EX x E) (G : Gd x cX0_arcOf_2 "ChantRules" yX0_arcOf_2 4 (Option.some Jvm.ClassFile.FieldType.int) Q) (hF : x.1.2.2.2.frames = 6 ∧ x.1.2.2.2.locals = 151) (hC : x.2.2.2.2.2 = (fun _ => false)) (hxt : (∀ z ∈ x.2.2.1.2.1.exceptionTable.toList, False)) : Snd x 29 (bX0_arcOf_2_29 E Q) := by
  unfold bX0_arcOf_2_29
  refine s_bipush (by decide) G.b dX0_arcOf_2_29 ?_
  exact (tX0_arcOf_2_31 EN G hF hC hxt)
set_option maxHeartbeats 4000000 in
theorem tX0_arcOf_2_0 {x : CX} {E : Nat → Value} {Q : Rs → HS → Prop} (EN : EX x E) (G : Gd x cX0_arcOf_2 "ChantRules" yX0_arcOf_2 4 (Option.some Jvm.ClassFile.FieldType.int) Q) (hF : x.1.2.2.2.frames = 6 ∧ x.1.2.2.2.locals = 151) (hC : x.2.2.2.2.2 = (fun _ => false)) (hxt : (∀ z ∈ x.2.2.1.2.1.exceptionTable.toList, False)) : Snd x 0 (bX0_arcOf_2_0 E Q) := by
  unfold bX0_arcOf_2_0
  refine s_aload_n rfl G.b dX0_arcOf_2_0 ?_
  refine s_getf G.b G.ow G.kn (G.hts _ q300) (fun _ h => h) fa_11 dX0_arcOf_2_1 ?_
  refine s_iload_n rfl G.b dX0_arcOf_2_4 ?_
  refine s_iload_n rfl G.b dX0_arcOf_2_5 ?_
  refine s_callV G (mX1_isArc EN) q755 q756 (sel_cons (r := (RX1, TX1, 4)) (by decide) rfl q757 (sel_nil)) q77 q758 nmk_90 (rm_of hF (Nat.le_of_ble_eq_true rfl) (Nat.le_of_ble_eq_true rfl)) dX0_arcOf_2_6 ?_ (sx_out G (fun z hz => (hxt z hz).elim))
  refine s_ifeq (tgt := 29) G.b dX0_arcOf_2_9 (by decide) (tX0_arcOf_2_29 EN G hF hC hxt) ?_
  refine s_aload_n rfl G.b dX0_arcOf_2_12 ?_
  refine s_getf G.b G.ow G.kn (G.hts _ q300) (fun _ h => h) fa_11 dX0_arcOf_2_13 ?_
  refine s_getfN G.b G.ow G.kn (va_Nw.use rfl (va_Nw.warmF G.warm (EN.nw q194 rfl))) (fun _ h => h) fa_5 dX0_arcOf_2_16 ?_
  refine s_iload_n rfl G.b dX0_arcOf_2_19 ?_
  refine s_aald G.b G.kn dX0_arcOf_2_20 ?_
  refine s_iload_n rfl G.b dX0_arcOf_2_21 ?_
  refine s_iload_n rfl G.b dX0_arcOf_2_22 ?_
  refine s_callV G (mX3_ofArc EN) q834 q835 (sel_cons (r := (RX3, TX3, 3)) (by decide) rfl q836 (sel_nil)) q79 q837 nmk_91 (rm_of hF (Nat.le_of_ble_eq_true rfl) (Nat.le_of_ble_eq_true rfl)) dX0_arcOf_2_23 ?_ (sx_out G (fun z hz => (hxt z hz).elim))
  exact s_goto (tgt := 31) G.b dX0_arcOf_2_26 (by decide) (tX0_arcOf_2_31 EN G hF hC hxt)
set_option maxHeartbeats 4000000 in
theorem mX0_arcOf_2 {l : Launch} {D : DE} {s0 : State} {E : Nat → Value} (EN : EV l D s0 E) : rMet l D s0 yX0_arcOf_2 (ws_ yX0_arcOf_2 cX0_arcOf_2 4 (Option.some Jvm.ClassFile.FieldType.int)) 6 151 (wX0_arcOf_2 E) := by
  refine body_met (fun _ => false) EN.kn (fun w h => h) (by decide +kernel) rfl (fun av h Q hw => ?_) ?_
  · unfold wX0_arcOf_2 at hw
    split at hw
    · exact Nat.le_of_ble_eq_true rfl
    · exact hw.elim
  · intro p e s m below meth c av h Q hxt G hw
    unfold wX0_arcOf_2 at hw
    split at hw
    · exact tX0_arcOf_2_0 EN G ⟨rfl, rfl⟩ rfl hxt _ _ _ hw
    · exact hw.elim
/-! java/lang/StringUTF16.getChar([BI)C (J7_getChar) -/
def bJ7_getChar_28 (E : Nat → Value) (Q : Rs → HS → Prop) : Ct :=
  o_iload 1 <|
  o_push (.int 1) <|
  o_ishl <|
  o_istore 1 <|
  o_aload 0 <|
  o_iload 1 <|
  o_iinc 1 1 <|
  o_ald [101, 102] <|
  o_push (.int 255) <|
  o_iand <|
  o_push (E 10) <|
  o_ishl <|
  o_aload 0 <|
  o_iload 1 <|
  o_ald [101, 102] <|
  o_push (.int 255) <|
  o_iand <|
  o_push (E 11) <|
  o_ishl <|
  o_ior <|
  o_i2c <|
  o_ireturn .char Q
def bJ7_getChar_18 (E : Nat → Value) (Q : Rs → HS → Prop) : Ct :=
  o_no
def bJ7_getChar_0 (E : Nat → Value) (Q : Rs → HS → Prop) : Ct :=
  o_push (E 9) <|
  o_ifne (bJ7_getChar_28 E Q) <|
  o_iload 1 <|
  o_iflt (bJ7_getChar_18 E Q) <|
  o_iload 1 <|
  o_aload 0 <|
  o_call 1 (wJ7_length E) (x_out Q) <|
  o_icmplt (bJ7_getChar_28 E Q) <|
  (bJ7_getChar_18 E Q)
def wJ7_getChar (E : Nat → Value) : Wp := fun av h Q => match av with
  | [a0, a1] => bJ7_getChar_0 E Q [a0, a1] [] h
  | _ => False
set_option maxHeartbeats 4000000 in
theorem tJ7_getChar_28 {x : CX} {E : Nat → Value} {Q : Rs → HS → Prop} (EN : EX x E) (G : Gd x cJ7_getChar "java/lang/StringUTF16" yJ7_getChar 2 (Option.some Jvm.ClassFile.FieldType.char) Q) (hF : x.1.2.2.2.frames = 3 ∧ x.1.2.2.2.locals = 84) (hC : x.2.2.2.2.2 = (fun _ => false)) (hxt : (∀ z ∈ x.2.2.1.2.1.exceptionTable.toList, False)) : Snd x 28 (bJ7_getChar_28 E Q) := by
  unfold bJ7_getChar_28
  refine s_iload_n rfl G.b dJ7_getChar_28 ?_
  refine s_iconst (by decide) G.b dJ7_getChar_29 ?_
  refine s_ishl G.b dJ7_getChar_30 ?_
  refine s_istore_n rfl G.b (by rw [G.nl]; decide) (fun _ _ => by rw [hC]) dJ7_getChar_31 ?_
  refine s_aload_n rfl G.b dJ7_getChar_32 ?_
  refine s_iload_n rfl G.b dJ7_getChar_33 ?_
  refine s_iinc (by decide) G.b (by rw [G.nl]; decide) (fun _ _ => by rw [hC]) dJ7_getChar_34 ?_
  refine s_bald G.b G.kn dJ7_getChar_37 ?_
  refine s_sipush (by decide) G.b dJ7_getChar_38 ?_
  refine s_iand G.b dJ7_getChar_41 ?_
  refine s_getst EN G q965 (i := 10) rfl dJ7_getChar_42 ?_
  refine s_ishl G.b dJ7_getChar_45 ?_
  refine s_aload_n rfl G.b dJ7_getChar_46 ?_
  refine s_iload_n rfl G.b dJ7_getChar_47 ?_
  refine s_bald G.b G.kn dJ7_getChar_48 ?_
  refine s_sipush (by decide) G.b dJ7_getChar_49 ?_
  refine s_iand G.b dJ7_getChar_52 ?_
  refine s_getst EN G q967 (i := 11) rfl dJ7_getChar_53 ?_
  refine s_ishl G.b dJ7_getChar_56 ?_
  refine s_ior G.b dJ7_getChar_57 ?_
  refine s_i2c G.b dJ7_getChar_58 ?_
  exact s_ireturn G dJ7_getChar_59
set_option maxHeartbeats 4000000 in
theorem tJ7_getChar_18 {x : CX} {E : Nat → Value} {Q : Rs → HS → Prop} (EN : EX x E) (G : Gd x cJ7_getChar "java/lang/StringUTF16" yJ7_getChar 2 (Option.some Jvm.ClassFile.FieldType.char) Q) (hF : x.1.2.2.2.frames = 3 ∧ x.1.2.2.2.locals = 84) (hC : x.2.2.2.2.2 = (fun _ => false)) (hxt : (∀ z ∈ x.2.2.1.2.1.exceptionTable.toList, False)) : Snd x 18 (bJ7_getChar_18 E Q) := by
  unfold bJ7_getChar_18
  exact s_no
set_option maxHeartbeats 4000000 in
theorem tJ7_getChar_0 {x : CX} {E : Nat → Value} {Q : Rs → HS → Prop} (EN : EX x E) (G : Gd x cJ7_getChar "java/lang/StringUTF16" yJ7_getChar 2 (Option.some Jvm.ClassFile.FieldType.char) Q) (hF : x.1.2.2.2.frames = 3 ∧ x.1.2.2.2.locals = 84) (hC : x.2.2.2.2.2 = (fun _ => false)) (hxt : (∀ z ∈ x.2.2.1.2.1.exceptionTable.toList, False)) : Snd x 0 (bJ7_getChar_0 E Q) := by
  unfold bJ7_getChar_0
  refine s_getst EN G q960 (i := 9) rfl dJ7_getChar_0 ?_
  refine s_ifne (tgt := 28) G.b dJ7_getChar_3 (by decide) (tJ7_getChar_28 EN G hF hC hxt) ?_
  refine s_iload_n rfl G.b dJ7_getChar_6 ?_
  refine s_iflt (tgt := 18) G.b dJ7_getChar_7 (by decide) (tJ7_getChar_18 EN G hF hC hxt) ?_
  refine s_iload_n rfl G.b dJ7_getChar_10 ?_
  refine s_aload_n rfl G.b dJ7_getChar_11 ?_
  refine s_callS G (mJ7_length EN) q962 q963 q87 q964 nmk_34 (rm_of hF (Nat.le_of_ble_eq_true rfl) (Nat.le_of_ble_eq_true rfl)) dJ7_getChar_12 ?_ (sx_out G (fun z hz => (hxt z hz).elim))
  refine s_icmplt (tgt := 28) G.b dJ7_getChar_15 (by decide) (tJ7_getChar_28 EN G hF hC hxt) ?_
  exact (tJ7_getChar_18 EN G hF hC hxt)
set_option maxHeartbeats 4000000 in
theorem mJ7_getChar {l : Launch} {D : DE} {s0 : State} {E : Nat → Value} (EN : EV l D s0 E) : rMet l D s0 yJ7_getChar (ws_ yJ7_getChar cJ7_getChar 2 (Option.some Jvm.ClassFile.FieldType.char)) 3 84 (wJ7_getChar E) := by
  refine body_met (fun _ => false) EN.kn (fun w h => h) (by decide +kernel) rfl (fun av h Q hw => ?_) ?_
  · unfold wJ7_getChar at hw
    split at hw
    · exact Nat.le_of_ble_eq_true rfl
    · exact hw.elim
  · intro p e s m below meth c av h Q hxt G hw
    unfold wJ7_getChar at hw
    split at hw
    · exact tJ7_getChar_0 EN G ⟨rfl, rfl⟩ rfl hxt _ _ _ hw
    · exact hw.elim
/-! java/lang/AbstractStringBuilder.charAt(I)C (J4_charAt) -/
theorem nmk_92 : nm_ok yJ7_getChar 2 := ⟨by decide +kernel, by decide +kernel, by decide +kernel⟩
def bJ4_charAt_42 (E : Nat → Value) (Q : Rs → HS → Prop) : Ct :=
  o_aload 3 <|
  o_iload 1 <|
  o_call 2 (wJ7_getChar E) (x_out Q) <|
  o_ireturn .char Q
def bJ4_charAt_0 (E : Nat → Value) (Q : Rs → HS → Prop) : Ct :=
  o_aload 0 <|
  o_getf [18] 1 <|
  o_istore 2 <|
  o_aload 0 <|
  o_getf [18] 0 <|
  o_astore 3 <|
  o_aload 0 <|
  o_getf [18] 3 <|
  o_aload 3 <|
  o_alen <|
  o_iload 2 <|
  o_ishr <|
  o_imin <|
  o_istore 4 <|
  o_iload 1 <|
  o_iload 4 <|
  o_call 2 (wJ6_checkIndex E) (x_out Q) <|
  o_iload 2 <|
  o_ifne (bJ4_charAt_42 E Q) <|
  o_aload 3 <|
  o_iload 1 <|
  o_ald [101, 102] <|
  o_push (.int 255) <|
  o_iand <|
  o_i2c <|
  o_ireturn .char Q
def wJ4_charAt (E : Nat → Value) : Wp := fun av h Q => match av with
  | [a0, a1] => bJ4_charAt_0 E Q [a0, a1, jk, jk, jk] [] h
  | _ => False
set_option maxHeartbeats 4000000 in
theorem tJ4_charAt_42 {x : CX} {E : Nat → Value} {Q : Rs → HS → Prop} (EN : EX x E) (G : Gd x cJ4_charAt "java/lang/AbstractStringBuilder" yJ4_charAt 5 (Option.some Jvm.ClassFile.FieldType.char) Q) (hF : x.1.2.2.2.frames = 4 ∧ x.1.2.2.2.locals = 107) (hC : x.2.2.2.2.2 = (fun _ => false)) (hxt : (∀ z ∈ x.2.2.1.2.1.exceptionTable.toList, False)) : Snd x 42 (bJ4_charAt_42 E Q) := by
  unfold bJ4_charAt_42
  refine s_aload_n rfl G.b dJ4_charAt_42 ?_
  refine s_iload_n rfl G.b dJ4_charAt_43 ?_
  refine s_callS G (mJ7_getChar EN) q957 q958 q87 q959 nmk_92 (rm_of hF (Nat.le_of_ble_eq_true rfl) (Nat.le_of_ble_eq_true rfl)) dJ4_charAt_44 ?_ (sx_out G (fun z hz => (hxt z hz).elim))
  exact s_ireturn G dJ4_charAt_47
set_option maxHeartbeats 4000000 in
theorem tJ4_charAt_0 {x : CX} {E : Nat → Value} {Q : Rs → HS → Prop} (EN : EX x E) (G : Gd x cJ4_charAt "java/lang/AbstractStringBuilder" yJ4_charAt 5 (Option.some Jvm.ClassFile.FieldType.char) Q) (hF : x.1.2.2.2.frames = 4 ∧ x.1.2.2.2.locals = 107) (hC : x.2.2.2.2.2 = (fun _ => false)) (hxt : (∀ z ∈ x.2.2.1.2.1.exceptionTable.toList, False)) : Snd x 0 (bJ4_charAt_0 E Q) := by
  unfold bJ4_charAt_0
  refine s_aload_n rfl G.b dJ4_charAt_0 ?_
  refine s_getf G.b G.ow G.kn (G.hts _ q246) (fun _ h => h) fa_8 dJ4_charAt_1 ?_
  refine s_istore_n rfl G.b (by rw [G.nl]; decide) (fun _ _ => by rw [hC]) dJ4_charAt_4 ?_
  refine s_aload_n rfl G.b dJ4_charAt_5 ?_
  refine s_getf G.b G.ow G.kn (G.hts _ q245) (fun _ h => h) fa_7 dJ4_charAt_6 ?_
  refine s_astore_n rfl G.b (by rw [G.nl]; decide) (fun _ _ => by rw [hC]) dJ4_charAt_9 ?_
  refine s_aload_n rfl G.b dJ4_charAt_10 ?_
  refine s_getf G.b G.ow G.kn (G.hts _ q249) (fun _ h => h) fa_23 dJ4_charAt_11 ?_
  refine s_aload_n rfl G.b dJ4_charAt_14 ?_
  refine s_alen G.b G.kn dJ4_charAt_15 ?_
  refine s_iload_n rfl G.b dJ4_charAt_16 ?_
  refine s_ishr G.b dJ4_charAt_17 ?_
  refine s_imin G hF ⟨Nat.le_of_ble_eq_true rfl, Nat.le_of_ble_eq_true rfl⟩ q950 q464 q93 q465 dJ4_charAt_18 ?_
  refine s_istore G.b (by rw [G.nl]; decide) (fun _ _ => by rw [hC]) dJ4_charAt_21 ?_
  refine s_iload_n rfl G.b dJ4_charAt_23 ?_
  refine s_iload G.b dJ4_charAt_24 ?_
  refine s_callS G (mJ6_checkIndex EN) q951 q952 q86 q953 nmk_42 (rm_of hF (Nat.le_of_ble_eq_true rfl) (Nat.le_of_ble_eq_true rfl)) dJ4_charAt_26 ?_ (sx_out G (fun z hz => (hxt z hz).elim))
  refine s_iload_n rfl G.b dJ4_charAt_29 ?_
  refine s_ifne (tgt := 42) G.b dJ4_charAt_30 (by decide) (tJ4_charAt_42 EN G hF hC hxt) ?_
  refine s_aload_n rfl G.b dJ4_charAt_33 ?_
  refine s_iload_n rfl G.b dJ4_charAt_34 ?_
  refine s_bald G.b G.kn dJ4_charAt_35 ?_
  refine s_sipush (by decide) G.b dJ4_charAt_36 ?_
  refine s_iand G.b dJ4_charAt_39 ?_
  refine s_i2c G.b dJ4_charAt_40 ?_
  exact s_ireturn G dJ4_charAt_41
set_option maxHeartbeats 4000000 in
theorem mJ4_charAt {l : Launch} {D : DE} {s0 : State} {E : Nat → Value} (EN : EV l D s0 E) : rMet l D s0 yJ4_charAt (ws_ yJ4_charAt cJ4_charAt 5 (Option.some Jvm.ClassFile.FieldType.char)) 4 107 (wJ4_charAt E) := by
  refine body_met (fun _ => false) EN.kn (fun w h => h) (by decide +kernel) rfl (fun av h Q hw => ?_) ?_
  · unfold wJ4_charAt at hw
    split at hw
    · exact Nat.le_of_ble_eq_true rfl
    · exact hw.elim
  · intro p e s m below meth c av h Q hxt G hw
    unfold wJ4_charAt at hw
    split at hw
    · exact tJ4_charAt_0 EN G ⟨rfl, rfl⟩ rfl hxt _ _ _ hw
    · exact hw.elim
/-! java/lang/StringBuilder.charAt(I)C (J5_charAt) -/
theorem nmk_93 : nm_ok yJ4_charAt 1 := ⟨by decide +kernel, by decide +kernel, by decide +kernel⟩
def bJ5_charAt_0 (E : Nat → Value) (Q : Rs → HS → Prop) : Ct :=
  o_aload 0 <|
  o_iload 1 <|
  o_callV [18] 2 (wJ4_charAt E) (x_out Q) <|
  o_ireturn .char Q
def wJ5_charAt (E : Nat → Value) : Wp := fun av h Q => match av with
  | [a0, a1] => bJ5_charAt_0 E Q [a0, a1] [] h
  | _ => False
set_option maxHeartbeats 4000000 in
theorem tJ5_charAt_0 {x : CX} {E : Nat → Value} {Q : Rs → HS → Prop} (EN : EX x E) (G : Gd x cJ5_charAt "java/lang/StringBuilder" yJ5_charAt 2 (Option.some Jvm.ClassFile.FieldType.char) Q) (hF : x.1.2.2.2.frames = 5 ∧ x.1.2.2.2.locals = 131) (hC : x.2.2.2.2.2 = (fun _ => false)) (hxt : (∀ z ∈ x.2.2.1.2.1.exceptionTable.toList, False)) : Snd x 0 (bJ5_charAt_0 E Q) := by
  unfold bJ5_charAt_0
  refine s_aload_n rfl G.b dJ5_charAt_0 ?_
  refine s_iload_n rfl G.b dJ5_charAt_1 ?_
  refine s_callSU (by decide) G (mJ4_charAt EN) q947 q2343 q258 q948 q84 q949 (by decide) nmk_93 (rm_of hF (Nat.le_of_ble_eq_true rfl) (Nat.le_of_ble_eq_true rfl)) dJ5_charAt_2 ?_ (sx_out G (fun z hz => (hxt z hz).elim))
  exact s_ireturn G dJ5_charAt_5
set_option maxHeartbeats 4000000 in
theorem mJ5_charAt {l : Launch} {D : DE} {s0 : State} {E : Nat → Value} (EN : EV l D s0 E) : rMet l D s0 yJ5_charAt (ws_ yJ5_charAt cJ5_charAt 2 (Option.some Jvm.ClassFile.FieldType.char)) 5 131 (wJ5_charAt E) := by
  refine body_met (fun _ => false) EN.kn (fun w h => h) (by decide +kernel) rfl (fun av h Q hw => ?_) ?_
  · unfold wJ5_charAt at hw
    split at hw
    · exact Nat.le_of_ble_eq_true rfl
    · exact hw.elim
  · intro p e s m below meth c av h Q hxt G hw
    unfold wJ5_charAt at hw
    split at hw
    · exact tJ5_charAt_0 EN G ⟨rfl, rfl⟩ rfl hxt _ _ _ hw
    · exact hw.elim
/-! ChantRules.isWord()Z (X0_isWord) -/
theorem nmk_94 : nm_ok yJ5_charAt 1 := ⟨by decide +kernel, by decide +kernel, by decide +kernel⟩
def bX0_isWord_55 (E : Nat → Value) (Q : Rs → HS → Prop) (X20 : Ct) : Ct :=
  o_iload 1 <|
  o_ireturn .boolean Q
def bX0_isWord_20 (E : Nat → Value) (Q : Rs → HS → Prop) (X20 : Ct) : Ct :=
  o_iload 2 <|
  o_aload 0 <|
  o_getf [0] 8 <|
  o_callV [18] 1 (wJ5_length E) (x_out Q) <|
  o_icmpge (bX0_isWord_55 E Q X20) <|
  o_iload 1 <|
  o_aload 0 <|
  o_getf [0] 8 <|
  o_iload 2 <|
  o_callV [18] 2 (wJ5_charAt E) (x_out Q) <|
  o_push (.int 97) <|
  o_push (.int 100) <|
  o_call 3 (wX0_isIn E) (x_out Q) <|
  o_iand <|
  o_istore 1 <|
  o_iinc 2 1 <|
  X20
def bX0_isWord_17 (E : Nat → Value) (Q : Rs → HS → Prop) (X20 : Ct) : Ct :=
  o_istore 1 <|
  o_push (.int 0) <|
  o_istore 2 <|
  X20
def bX0_isWord_16 (E : Nat → Value) (Q : Rs → HS → Prop) (X20 : Ct) : Ct :=
  o_push (.int 0) <|
  (bX0_isWord_17 E Q X20)
def bX0_isWord_0 (E : Nat → Value) (Q : Rs → HS → Prop) (X20 : Ct) : Ct :=
  o_aload 0 <|
  o_getf [0] 8 <|
  o_callV [18] 1 (wJ5_length E) (x_out Q) <|
  o_push (.int 8) <|
  o_icmpgt (bX0_isWord_16 E Q X20) <|
  o_push (.int 1) <|
  (bX0_isWord_17 E Q X20)
def wX0_isWord (E : Nat → Value) : Wp := fun av h Q => match av with
  | [a0] => ∀ X20 : Ct, (∀ ls st h, bX0_isWord_20 E Q X20 ls st h → X20 ls st h) → bX0_isWord_0 E Q X20 [a0, jk, jk] [] h
  | _ => False
set_option maxHeartbeats 4000000 in
theorem tX0_isWord_55 {x : CX} {E : Nat → Value} {Q : Rs → HS → Prop} {X20 : Ct} (EN : EX x E) (G : Gd x cX0_isWord "ChantRules" yX0_isWord 3 (Option.some Jvm.ClassFile.FieldType.boolean) Q) (hF : x.1.2.2.2.frames = 6 ∧ x.1.2.2.2.locals = 152) (hC : x.2.2.2.2.2 = (fun _ => false)) (hxt : (∀ z ∈ x.2.2.1.2.1.exceptionTable.toList, False)) (h20 : Snd x 20 X20) : Snd x 55 (bX0_isWord_55 E Q X20) := by
  unfold bX0_isWord_55
  refine s_iload_n rfl G.b dX0_isWord_55 ?_
  exact s_ireturn G dX0_isWord_56
set_option maxHeartbeats 4000000 in
theorem tX0_isWord_20 {x : CX} {E : Nat → Value} {Q : Rs → HS → Prop} {X20 : Ct} (EN : EX x E) (G : Gd x cX0_isWord "ChantRules" yX0_isWord 3 (Option.some Jvm.ClassFile.FieldType.boolean) Q) (hF : x.1.2.2.2.frames = 6 ∧ x.1.2.2.2.locals = 152) (hC : x.2.2.2.2.2 = (fun _ => false)) (hxt : (∀ z ∈ x.2.2.1.2.1.exceptionTable.toList, False)) (h20 : Snd x 20 X20) : Snd x 20 (bX0_isWord_20 E Q X20) := by
  unfold bX0_isWord_20
  refine s_iload_n rfl G.b dX0_isWord_20 ?_
  refine s_aload_n rfl G.b dX0_isWord_21 ?_
  refine s_getf G.b G.ow G.kn (G.hts _ q307) (fun _ h => h) fa_13 dX0_isWord_22 ?_
  refine s_callV G (mJ5_length EN) q936 q937 (sel_cons (r := (RJ5, TJ5, 4)) (by decide) rfl q938 (sel_nil)) q85 q939 nmk_24 (rm_of hF (Nat.le_of_ble_eq_true rfl) (Nat.le_of_ble_eq_true rfl)) dX0_isWord_25 ?_ (sx_out G (fun z hz => (hxt z hz).elim))
  refine s_icmpge (tgt := 55) G.b dX0_isWord_28 (by decide) (tX0_isWord_55 EN G hF hC hxt h20) ?_
  refine s_iload_n rfl G.b dX0_isWord_31 ?_
  refine s_aload_n rfl G.b dX0_isWord_32 ?_
  refine s_getf G.b G.ow G.kn (G.hts _ q307) (fun _ h => h) fa_13 dX0_isWord_33 ?_
  refine s_iload_n rfl G.b dX0_isWord_36 ?_
  refine s_callV G (mJ5_charAt EN) q943 q944 (sel_cons (r := (RJ5, TJ5, 4)) (by decide) rfl q945 (sel_nil)) q85 q946 nmk_94 (rm_of hF (Nat.le_of_ble_eq_true rfl) (Nat.le_of_ble_eq_true rfl)) dX0_isWord_37 ?_ (sx_out G (fun z hz => (hxt z hz).elim))
  refine s_bipush (by decide) G.b dX0_isWord_40 ?_
  refine s_bipush (by decide) G.b dX0_isWord_42 ?_
  refine s_callS G (mX0_isIn EN) q339 q340 q76 q341 nmk_50 (rm_of hF (Nat.le_of_ble_eq_true rfl) (Nat.le_of_ble_eq_true rfl)) dX0_isWord_44 ?_ (sx_out G (fun z hz => (hxt z hz).elim))
  refine s_iand G.b dX0_isWord_47 ?_
  refine s_istore_n rfl G.b (by rw [G.nl]; decide) (fun _ _ => by rw [hC]) dX0_isWord_48 ?_
  refine s_iinc (by decide) G.b (by rw [G.nl]; decide) (fun _ _ => by rw [hC]) dX0_isWord_49 ?_
  exact s_goto (tgt := 20) G.b dX0_isWord_52 (by decide) h20
set_option maxHeartbeats 4000000 in
theorem tX0_isWord_17 {x : CX} {E : Nat → Value} {Q : Rs → HS → Prop} {X20 : Ct} (EN : EX x E) (G : Gd x cX0_isWord "ChantRules" yX0_isWord 3 (Option.some Jvm.ClassFile.FieldType.boolean) Q) (hF : x.1.2.2.2.frames = 6 ∧ x.1.2.2.2.locals = 152) (hC : x.2.2.2.2.2 = (fun _ => false)) (hxt : (∀ z ∈ x.2.2.1.2.1.exceptionTable.toList, False)) (h20 : Snd x 20 X20) : Snd x 17 (bX0_isWord_17 E Q X20) := by
  unfold bX0_isWord_17
  refine s_istore_n rfl G.b (by rw [G.nl]; decide) (fun _ _ => by rw [hC]) dX0_isWord_17 ?_
  refine s_iconst (by decide) G.b dX0_isWord_18 ?_
  refine s_istore_n rfl G.b (by rw [G.nl]; decide) (fun _ _ => by rw [hC]) dX0_isWord_19 ?_
  exact h20
set_option maxHeartbeats 4000000 in
theorem tX0_isWord_16 {x : CX} {E : Nat → Value} {Q : Rs → HS → Prop} {X20 : Ct} (EN : EX x E) (G : Gd x cX0_isWord "ChantRules" yX0_isWord 3 (Option.some Jvm.ClassFile.FieldType.boolean) Q) (hF : x.1.2.2.2.frames = 6 ∧ x.1.2.2.2.locals = 152) (hC : x.2.2.2.2.2 = (fun _ => false)) (hxt : (∀ z ∈ x.2.2.1.2.1.exceptionTable.toList, False)) (h20 : Snd x 20 X20) : Snd x 16 (bX0_isWord_16 E Q X20) := by
  unfold bX0_isWord_16
  refine s_iconst (by decide) G.b dX0_isWord_16 ?_
  exact (tX0_isWord_17 EN G hF hC hxt h20)
set_option maxHeartbeats 4000000 in
theorem tX0_isWord_0 {x : CX} {E : Nat → Value} {Q : Rs → HS → Prop} {X20 : Ct} (EN : EX x E) (G : Gd x cX0_isWord "ChantRules" yX0_isWord 3 (Option.some Jvm.ClassFile.FieldType.boolean) Q) (hF : x.1.2.2.2.frames = 6 ∧ x.1.2.2.2.locals = 152) (hC : x.2.2.2.2.2 = (fun _ => false)) (hxt : (∀ z ∈ x.2.2.1.2.1.exceptionTable.toList, False)) (h20 : Snd x 20 X20) : Snd x 0 (bX0_isWord_0 E Q X20) := by
  unfold bX0_isWord_0
  refine s_aload_n rfl G.b dX0_isWord_0 ?_
  refine s_getf G.b G.ow G.kn (G.hts _ q307) (fun _ h => h) fa_13 dX0_isWord_1 ?_
  refine s_callV G (mJ5_length EN) q936 q937 (sel_cons (r := (RJ5, TJ5, 4)) (by decide) rfl q938 (sel_nil)) q85 q939 nmk_24 (rm_of hF (Nat.le_of_ble_eq_true rfl) (Nat.le_of_ble_eq_true rfl)) dX0_isWord_4 ?_ (sx_out G (fun z hz => (hxt z hz).elim))
  refine s_bipush (by decide) G.b dX0_isWord_7 ?_
  refine s_icmpgt (tgt := 16) G.b dX0_isWord_9 (by decide) (tX0_isWord_16 EN G hF hC hxt h20) ?_
  refine s_iconst (by decide) G.b dX0_isWord_12 ?_
  exact s_goto (tgt := 17) G.b dX0_isWord_13 (by decide) (tX0_isWord_17 EN G hF hC hxt h20)
set_option maxHeartbeats 4000000 in
theorem mX0_isWord {l : Launch} {D : DE} {s0 : State} {E : Nat → Value} (EN : EV l D s0 E) : rMet l D s0 yX0_isWord (ws_ yX0_isWord cX0_isWord 3 (Option.some Jvm.ClassFile.FieldType.boolean)) 6 152 (wX0_isWord E) := by
  refine body_met (fun _ => false) EN.kn (fun w h => h) (by decide +kernel) rfl (fun av h Q hw => ?_) ?_
  · unfold wX0_isWord at hw
    split at hw
    · exact Nat.le_of_ble_eq_true rfl
    · exact hw.elim
  · intro p e s m below meth c av h Q hxt G hw
    unfold wX0_isWord at hw
    split at hw
    · exact tX0_isWord_0 EN G ⟨rfl, rfl⟩ rfl hxt (fun _ _ _ h => h) _ _ _ (hw (AW _ 20) (tX0_isWord_20 EN G ⟨rfl, rfl⟩ rfl hxt (fun _ _ _ h => h)))
    · exact hw.elim
/-! ChantRules.weightOf(LChantRules$Way;)I (X0_weightOf) -/
theorem fa_45 : fieldAt [12] 0 "ChantRules$Way" "weight" "I" := fa_cons (r := (RX9, TX9, 2)) rfl (by decide) rfl rfl rfl (fa_nil)
def bX0_weightOf_13 (E : Nat → Value) (Q : Rs → HS → Prop) : Ct :=
  o_ireturn .int Q
def bX0_weightOf_9 (E : Nat → Value) (Q : Rs → HS → Prop) : Ct :=
  o_aload 0 <|
  o_getf [12] 0 <|
  (bX0_weightOf_13 E Q)
def bX0_weightOf_0 (E : Nat → Value) (Q : Rs → HS → Prop) : Ct :=
  o_aload 0 <|
  o_ifnonnull (bX0_weightOf_9 E Q) <|
  o_push (.int (-15)) <|
  (bX0_weightOf_13 E Q)
def wX0_weightOf (E : Nat → Value) : Wp := fun av h Q => match av with
  | [a0] => bX0_weightOf_0 E Q [a0] [] h
  | _ => False
set_option maxHeartbeats 4000000 in
theorem tX0_weightOf_13 {x : CX} {E : Nat → Value} {Q : Rs → HS → Prop} (EN : EX x E) (G : Gd x cX0_weightOf "ChantRules" yX0_weightOf 1 (Option.some Jvm.ClassFile.FieldType.int) Q) (hF : x.1.2.2.2.frames = 2 ∧ x.1.2.2.2.locals = 64) (hC : x.2.2.2.2.2 = (fun _ => false)) (hxt : (∀ z ∈ x.2.2.1.2.1.exceptionTable.toList, False)) : Snd x 13 (bX0_weightOf_13 E Q) := by
  unfold bX0_weightOf_13
  exact s_ireturn G dX0_weightOf_13
set_option maxHeartbeats 4000000 in
theorem tX0_weightOf_9 {x : CX} {E : Nat → Value} {Q : Rs → HS → Prop} (EN : EX x E) (G : Gd x cX0_weightOf "ChantRules" yX0_weightOf 1 (Option.some Jvm.ClassFile.FieldType.int) Q) (hF : x.1.2.2.2.frames = 2 ∧ x.1.2.2.2.locals = 64) (hC : x.2.2.2.2.2 = (fun _ => false)) (hxt : (∀ z ∈ x.2.2.1.2.1.exceptionTable.toList, False)) : Snd x 9 (bX0_weightOf_9 E Q) := by
  unfold bX0_weightOf_9
  refine s_aload_n rfl G.b dX0_weightOf_9 ?_
  refine s_getfN G.b G.ow G.kn (va_Nw.use rfl (va_Nw.warmF G.warm (EN.nw q1002 rfl))) (fun _ h => h) fa_45 dX0_weightOf_10 ?_
  exact (tX0_weightOf_13 EN G hF hC hxt)
set_option maxHeartbeats 4000000 in
theorem tX0_weightOf_0 {x : CX} {E : Nat → Value} {Q : Rs → HS → Prop} (EN : EX x E) (G : Gd x cX0_weightOf "ChantRules" yX0_weightOf 1 (Option.some Jvm.ClassFile.FieldType.int) Q) (hF : x.1.2.2.2.frames = 2 ∧ x.1.2.2.2.locals = 64) (hC : x.2.2.2.2.2 = (fun _ => false)) (hxt : (∀ z ∈ x.2.2.1.2.1.exceptionTable.toList, False)) : Snd x 0 (bX0_weightOf_0 E Q) := by
  unfold bX0_weightOf_0
  refine s_aload_n rfl G.b dX0_weightOf_0 ?_
  refine s_ifnonnull (tgt := 9) G.b dX0_weightOf_1 (by decide) (tX0_weightOf_9 EN G hF hC hxt) ?_
  refine s_bipush (by decide) G.b dX0_weightOf_4 ?_
  exact s_goto (tgt := 13) G.b dX0_weightOf_6 (by decide) (tX0_weightOf_13 EN G hF hC hxt)
set_option maxHeartbeats 4000000 in
theorem mX0_weightOf {l : Launch} {D : DE} {s0 : State} {E : Nat → Value} (EN : EV l D s0 E) : rMet l D s0 yX0_weightOf (ws_ yX0_weightOf cX0_weightOf 1 (Option.some Jvm.ClassFile.FieldType.int)) 2 64 (wX0_weightOf E) := by
  refine body_met (fun _ => false) EN.kn (fun w h => h) (by decide +kernel) rfl (fun av h Q hw => ?_) ?_
  · unfold wX0_weightOf at hw
    split at hw
    · exact Nat.le_of_ble_eq_true rfl
    · exact hw.elim
  · intro p e s m below meth c av h Q hxt G hw
    unfold wX0_weightOf at hw
    split at hw
    · exact tX0_weightOf_0 EN G ⟨rfl, rfl⟩ rfl hxt _ _ _ hw
    · exact hw.elim
/-! ChantRules$Composed.pair(II)I (X11_pair) -/
theorem fa_46 : fieldAt [4] 1 "ChantRules$Composed" "other" "LChantRules$Rule;" := fa_cons (r := (RX11, TX11, 3)) rfl (by decide) rfl rfl rfl (fa_nil)
def bX11_pair_0 (E : Nat → Value) (Q : Rs → HS → Prop) : Ct :=
  o_aload 0 <|
  o_getf [4] 1 <|
  o_getf [2] 2 <|
  o_iload 1 <|
  o_imul <|
  o_iload 2 <|
  o_iadd <|
  o_ireturn .int Q
def wX11_pair (E : Nat → Value) : Wp := fun av h Q => match av with
  | [a0, a1, a2] => bX11_pair_0 E Q [a0, a1, a2] [] h
  | _ => False
set_option maxHeartbeats 4000000 in
theorem tX11_pair_0 {x : CX} {E : Nat → Value} {Q : Rs → HS → Prop} (EN : EX x E) (G : Gd x cX11_pair "ChantRules$Composed" yX11_pair 3 (Option.some Jvm.ClassFile.FieldType.int) Q) (hF : x.1.2.2.2.frames = 2 ∧ x.1.2.2.2.locals = 64) (hC : x.2.2.2.2.2 = (fun _ => false)) (hxt : (∀ z ∈ x.2.2.1.2.1.exceptionTable.toList, False)) : Snd x 0 (bX11_pair_0 E Q) := by
  unfold bX11_pair_0
  refine s_aload_n rfl G.b dX11_pair_0 ?_
  refine s_getf G.b G.ow G.kn (G.hts _ q1289) (fun _ h => h) fa_46 dX11_pair_1 ?_
  refine s_getfN G.b G.ow G.kn (va_Nw.use rfl (va_Nw.warmF G.warm (EN.nw q181 rfl))) (fun _ h => h) fa_4 dX11_pair_4 ?_
  refine s_iload_n rfl G.b dX11_pair_7 ?_
  refine s_imul G.b dX11_pair_8 ?_
  refine s_iload_n rfl G.b dX11_pair_9 ?_
  refine s_iadd G.b dX11_pair_10 ?_
  exact s_ireturn G dX11_pair_11
set_option maxHeartbeats 4000000 in
theorem mX11_pair {l : Launch} {D : DE} {s0 : State} {E : Nat → Value} (EN : EV l D s0 E) : rMet l D s0 yX11_pair (ws_ yX11_pair cX11_pair 3 (Option.some Jvm.ClassFile.FieldType.int)) 2 64 (wX11_pair E) := by
  refine body_met (fun _ => false) EN.kn (fun w h => h) (by decide +kernel) rfl (fun av h Q hw => ?_) ?_
  · unfold wX11_pair at hw
    split at hw
    · exact Nat.le_of_ble_eq_true rfl
    · exact hw.elim
  · intro p e s m below meth c av h Q hxt G hw
    unfold wX11_pair at hw
    split at hw
    · exact tX11_pair_0 EN G ⟨rfl, rfl⟩ rfl hxt _ _ _ hw
    · exact hw.elim
