set_option maxRecDepth 100000
/-! ChantRules.cheapest(I)I (X0_cheapest) -/
theorem nmk_151 : nm_ok ⟨"ChantRules$Rule", "leastOf", "(Z)I"⟩ 1 := ⟨by decide +kernel, by decide +kernel, by decide +kernel⟩
def bX0_cheapest_25 (E : Nat → Value) (Q : Rs → HS → Prop) : Ct :=
  o_ireturn .int Q
def bX0_cheapest_23 (E : Nat → Value) (Q : Rs → HS → Prop) : Ct :=
  o_push (.int (-11)) <|
  (bX0_cheapest_25 E Q)
def bX0_cheapest_0 (E : Nat → Value) (Q : Rs → HS → Prop) : Ct :=
  o_iload 1 <|
  o_call 1 (wX0_isRule E) (x_out Q) <|
  o_ifeq (bX0_cheapest_23 E Q) <|
  o_aload 0 <|
  o_getf [0] 1 <|
  o_getf [1] 0 <|
  o_iload 1 <|
  o_ald [103, 104, 105, 106, 107] <|
  o_push (.int 1) <|
  o_callV [2] 2 (wX2_leastOf E) (x_out Q) <|
  (bX0_cheapest_25 E Q)
def wX0_cheapest (E : Nat → Value) : Wp := fun av h Q => match av with
  | [a0, a1] => bX0_cheapest_0 E Q [a0, a1] [] h
  | _ => False
set_option maxHeartbeats 4000000 in
theorem tX0_cheapest_25 {x : CX} {E : Nat → Value} {Q : Rs → HS → Prop} (EN : EX x E) (G : Gd x cX0_cheapest "ChantRules" yX0_cheapest 2 (Option.some Jvm.ClassFile.FieldType.int) Q) (hF : x.1.2.2.2.frames = 5 ∧ x.1.2.2.2.locals = 134) (hC : x.2.2.2.2.2 = (fun _ => false)) (hxt : (∀ z ∈ x.2.2.1.2.1.exceptionTable.toList, False)) : Snd x 25 (bX0_cheapest_25 E Q) := by
  unfold bX0_cheapest_25
  exact s_ireturn G dX0_cheapest_25
set_option maxHeartbeats 4000000 in
theorem tX0_cheapest_23 {x : CX} {E : Nat → Value} {Q : Rs → HS → Prop} (EN : EX x E) (G : Gd x cX0_cheapest "ChantRules" yX0_cheapest 2 (Option.some Jvm.ClassFile.FieldType.int) Q) (hF : x.1.2.2.2.frames = 5 ∧ x.1.2.2.2.locals = 134) (hC : x.2.2.2.2.2 = (fun _ => false)) (hxt : (∀ z ∈ x.2.2.1.2.1.exceptionTable.toList, False)) : Snd x 23 (bX0_cheapest_23 E Q) := by
  unfold bX0_cheapest_23
  refine s_bipush (by decide) G.b dX0_cheapest_23 ?_
  exact (tX0_cheapest_25 EN G hF hC hxt)
set_option maxHeartbeats 4000000 in
theorem tX0_cheapest_0 {x : CX} {E : Nat → Value} {Q : Rs → HS → Prop} (EN : EX x E) (G : Gd x cX0_cheapest "ChantRules" yX0_cheapest 2 (Option.some Jvm.ClassFile.FieldType.int) Q) (hF : x.1.2.2.2.frames = 5 ∧ x.1.2.2.2.locals = 134) (hC : x.2.2.2.2.2 = (fun _ => false)) (hxt : (∀ z ∈ x.2.2.1.2.1.exceptionTable.toList, False)) : Snd x 0 (bX0_cheapest_0 E Q) := by
  unfold bX0_cheapest_0
  refine s_iload_n rfl G.b dX0_cheapest_0 ?_
  refine s_callS G (mX0_isRule EN) q336 q337 q76 q338 nmk_66 (rm_of hF (Nat.le_of_ble_eq_true rfl) (Nat.le_of_ble_eq_true rfl)) dX0_cheapest_1 ?_ (sx_out G (fun z hz => (hxt z hz).elim))
  refine s_ifeq (tgt := 23) G.b dX0_cheapest_4 (by decide) (tX0_cheapest_23 EN G hF hC hxt) ?_
  refine s_aload_n rfl G.b dX0_cheapest_7 ?_
  refine s_getf G.b G.ow G.kn (G.hts _ q300) (fun _ h => h) fa_11 dX0_cheapest_8 ?_
  refine s_getfN G.b G.ow G.kn (va_Nw.use rfl (va_Nw.warmF G.warm (EN.nw q194 rfl))) (fun _ h => h) fa_5 dX0_cheapest_11 ?_
  refine s_iload_n rfl G.b dX0_cheapest_14 ?_
  refine s_aald G.b G.kn dX0_cheapest_15 ?_
  refine s_iconst (by decide) G.b dX0_cheapest_16 ?_
  refine s_callVU (w := ⟨"ChantRules$Rule", "leastOf", "(Z)I"⟩) (owner := "ChantRules$Machine") G (mX2_leastOf EN) q1380 q1381 (va_Decl.of (G.hts _ q1384) (G.hts _ q1385)) (by decide +kernel) q1384 (sel_cons (r := (RX3, TX3, 3)) (by decide) rfl q1383 (sel_nil)) q78 q1385 nmk_151 (rm_of hF (Nat.le_of_ble_eq_true rfl) (Nat.le_of_ble_eq_true rfl)) dX0_cheapest_17 ?_ (sx_out G (fun z hz => (hxt z hz).elim))
  exact s_goto (tgt := 25) G.b dX0_cheapest_20 (by decide) (tX0_cheapest_25 EN G hF hC hxt)
set_option maxHeartbeats 4000000 in
theorem mX0_cheapest {l : Launch} {D : DE} {s0 : State} {E : Nat → Value} (EN : EV l D s0 E) : rMet l D s0 yX0_cheapest (ws_ yX0_cheapest cX0_cheapest 2 (Option.some Jvm.ClassFile.FieldType.int)) 5 134 (wX0_cheapest E) := by
  refine body_met (fun _ => false) EN.kn (fun w h => h) (by decide +kernel) rfl (fun av h Q hw => ?_) ?_
  · unfold wX0_cheapest at hw
    split at hw
    · exact Nat.le_of_ble_eq_true rfl
    · exact hw.elim
  · intro p e s m below meth c av h Q hxt G hw
    unfold wX0_cheapest at hw
    split at hw
    · exact tX0_cheapest_0 EN G ⟨rfl, rfl⟩ rfl hxt _ _ _ hw
    · exact hw.elim
/-! java/util/Arrays.rangeCheck(III)V (J12_rangeCheck) -/
def bJ12_rangeCheck_73 (E : Nat → Value) (Q : Rs → HS → Prop) : Ct :=
  o_return Q
def bJ12_rangeCheck_59 (E : Nat → Value) (Q : Rs → HS → Prop) : Ct :=
  o_iload 2 <|
  o_iload 0 <|
  o_icmple (bJ12_rangeCheck_73 E Q) <|
  o_no
def bJ12_rangeCheck_46 (E : Nat → Value) (Q : Rs → HS → Prop) : Ct :=
  o_iload 1 <|
  o_ifge (bJ12_rangeCheck_59 E Q) <|
  o_no
def bJ12_rangeCheck_0 (E : Nat → Value) (Q : Rs → HS → Prop) : Ct :=
  o_iload 1 <|
  o_iload 2 <|
  o_icmple (bJ12_rangeCheck_46 E Q) <|
  o_no
def wJ12_rangeCheck (E : Nat → Value) : Wp := fun av h Q => match av with
  | [a0, a1, a2] => bJ12_rangeCheck_0 E Q [a0, a1, a2] [] h
  | _ => False
set_option maxHeartbeats 4000000 in
theorem tJ12_rangeCheck_73 {x : CX} {E : Nat → Value} {Q : Rs → HS → Prop} (EN : EX x E) (G : Gd x cJ12_rangeCheck "java/util/Arrays" yJ12_rangeCheck 3 (Option.none : Option Jvm.ClassFile.FieldType) Q) (hF : x.1.2.2.2.frames = 2 ∧ x.1.2.2.2.locals = 64) (hC : x.2.2.2.2.2 = (fun _ => false)) (hxt : (∀ z ∈ x.2.2.1.2.1.exceptionTable.toList, False)) : Snd x 73 (bJ12_rangeCheck_73 E Q) := by
  unfold bJ12_rangeCheck_73
  exact s_return G dJ12_rangeCheck_73
set_option maxHeartbeats 4000000 in
theorem tJ12_rangeCheck_59 {x : CX} {E : Nat → Value} {Q : Rs → HS → Prop} (EN : EX x E) (G : Gd x cJ12_rangeCheck "java/util/Arrays" yJ12_rangeCheck 3 (Option.none : Option Jvm.ClassFile.FieldType) Q) (hF : x.1.2.2.2.frames = 2 ∧ x.1.2.2.2.locals = 64) (hC : x.2.2.2.2.2 = (fun _ => false)) (hxt : (∀ z ∈ x.2.2.1.2.1.exceptionTable.toList, False)) : Snd x 59 (bJ12_rangeCheck_59 E Q) := by
  unfold bJ12_rangeCheck_59
  refine s_iload_n rfl G.b dJ12_rangeCheck_59 ?_
  refine s_iload_n rfl G.b dJ12_rangeCheck_60 ?_
  refine s_icmple (tgt := 73) G.b dJ12_rangeCheck_61 (by decide) (tJ12_rangeCheck_73 EN G hF hC hxt) ?_
  exact s_no
set_option maxHeartbeats 4000000 in
theorem tJ12_rangeCheck_46 {x : CX} {E : Nat → Value} {Q : Rs → HS → Prop} (EN : EX x E) (G : Gd x cJ12_rangeCheck "java/util/Arrays" yJ12_rangeCheck 3 (Option.none : Option Jvm.ClassFile.FieldType) Q) (hF : x.1.2.2.2.frames = 2 ∧ x.1.2.2.2.locals = 64) (hC : x.2.2.2.2.2 = (fun _ => false)) (hxt : (∀ z ∈ x.2.2.1.2.1.exceptionTable.toList, False)) : Snd x 46 (bJ12_rangeCheck_46 E Q) := by
  unfold bJ12_rangeCheck_46
  refine s_iload_n rfl G.b dJ12_rangeCheck_46 ?_
  refine s_ifge (tgt := 59) G.b dJ12_rangeCheck_47 (by decide) (tJ12_rangeCheck_59 EN G hF hC hxt) ?_
  exact s_no
set_option maxHeartbeats 4000000 in
theorem tJ12_rangeCheck_0 {x : CX} {E : Nat → Value} {Q : Rs → HS → Prop} (EN : EX x E) (G : Gd x cJ12_rangeCheck "java/util/Arrays" yJ12_rangeCheck 3 (Option.none : Option Jvm.ClassFile.FieldType) Q) (hF : x.1.2.2.2.frames = 2 ∧ x.1.2.2.2.locals = 64) (hC : x.2.2.2.2.2 = (fun _ => false)) (hxt : (∀ z ∈ x.2.2.1.2.1.exceptionTable.toList, False)) : Snd x 0 (bJ12_rangeCheck_0 E Q) := by
  unfold bJ12_rangeCheck_0
  refine s_iload_n rfl G.b dJ12_rangeCheck_0 ?_
  refine s_iload_n rfl G.b dJ12_rangeCheck_1 ?_
  refine s_icmple (tgt := 46) G.b dJ12_rangeCheck_2 (by decide) (tJ12_rangeCheck_46 EN G hF hC hxt) ?_
  exact s_no
set_option maxHeartbeats 4000000 in
theorem mJ12_rangeCheck {l : Launch} {D : DE} {s0 : State} {E : Nat → Value} (EN : EV l D s0 E) : rMet l D s0 yJ12_rangeCheck (ws_ yJ12_rangeCheck cJ12_rangeCheck 3 (Option.none : Option Jvm.ClassFile.FieldType)) 2 64 (wJ12_rangeCheck E) := by
  refine body_met (fun _ => false) EN.kn (fun w h => h) (by decide +kernel) rfl (fun av h Q hw => ?_) ?_
  · unfold wJ12_rangeCheck at hw
    split at hw
    · exact Nat.le_of_ble_eq_true rfl
    · exact hw.elim
  · intro p e s m below meth c av h Q hxt G hw
    unfold wJ12_rangeCheck at hw
    split at hw
    · exact tJ12_rangeCheck_0 EN G ⟨rfl, rfl⟩ rfl hxt _ _ _ hw
    · exact hw.elim
/-! java/util/Arrays.fill([BIIB)V (J12_fill) -/
theorem nmk_152 : nm_ok yJ12_rangeCheck 3 := ⟨by decide +kernel, by decide +kernel, by decide +kernel⟩
def bJ12_fill_27 (E : Nat → Value) (Q : Rs → HS → Prop) (X10 : Ct) : Ct :=
  o_return Q
def bJ12_fill_10 (E : Nat → Value) (Q : Rs → HS → Prop) (X10 : Ct) : Ct :=
  o_iload 4 <|
  o_iload 2 <|
  o_icmpge (bJ12_fill_27 E Q X10) <|
  o_aload 0 <|
  o_iload 4 <|
  o_iload 3 <|
  o_ast [(101, .boolean), (102, .byte)] <|
  o_iinc 4 1 <|
  X10
def bJ12_fill_0 (E : Nat → Value) (Q : Rs → HS → Prop) (X10 : Ct) : Ct :=
  o_aload 0 <|
  o_alen <|
  o_iload 1 <|
  o_iload 2 <|
  o_call 3 (wJ12_rangeCheck E) (x_out Q) <|
  o_iload 1 <|
  o_istore 4 <|
  X10
def wJ12_fill (E : Nat → Value) : Wp := fun av h Q => match av with
  | [a0, a1, a2, a3] => ∀ X10 : Ct, (∀ ls st h, bJ12_fill_10 E Q X10 ls st h → X10 ls st h) → bJ12_fill_0 E Q X10 [a0, a1, a2, a3, jk] [] h
  | _ => False
set_option maxHeartbeats 4000000 in
theorem tJ12_fill_27 {x : CX} {E : Nat → Value} {Q : Rs → HS → Prop} {X10 : Ct} (EN : EX x E) (G : Gd x cJ12_fill "java/util/Arrays" yJ12_fill 5 (Option.none : Option Jvm.ClassFile.FieldType) Q) (hF : x.1.2.2.2.frames = 3 ∧ x.1.2.2.2.locals = 86) (hC : x.2.2.2.2.2 = (fun _ => false)) (hxt : (∀ z ∈ x.2.2.1.2.1.exceptionTable.toList, False)) (h10 : Snd x 10 X10) : Snd x 27 (bJ12_fill_27 E Q X10) := by
  unfold bJ12_fill_27
  exact s_return G dJ12_fill_27
set_option maxHeartbeats 4000000 in
theorem tJ12_fill_10 {x : CX} {E : Nat → Value} {Q : Rs → HS → Prop} {X10 : Ct} (EN : EX x E) (G : Gd x cJ12_fill "java/util/Arrays" yJ12_fill 5 (Option.none : Option Jvm.ClassFile.FieldType) Q) (hF : x.1.2.2.2.frames = 3 ∧ x.1.2.2.2.locals = 86) (hC : x.2.2.2.2.2 = (fun _ => false)) (hxt : (∀ z ∈ x.2.2.1.2.1.exceptionTable.toList, False)) (h10 : Snd x 10 X10) : Snd x 10 (bJ12_fill_10 E Q X10) := by
  unfold bJ12_fill_10
  refine s_iload G.b dJ12_fill_10 ?_
  refine s_iload_n rfl G.b dJ12_fill_12 ?_
  refine s_icmpge (tgt := 27) G.b dJ12_fill_13 (by decide) (tJ12_fill_27 EN G hF hC hxt h10) ?_
  refine s_aload_n rfl G.b dJ12_fill_16 ?_
  refine s_iload G.b dJ12_fill_17 ?_
  refine s_iload_n rfl G.b dJ12_fill_19 ?_
  refine s_bast G.b G.kn dJ12_fill_20 ?_
  refine s_iinc (by decide) G.b (by rw [G.nl]; decide) (fun _ _ => by rw [hC]) dJ12_fill_21 ?_
  exact s_goto (tgt := 10) G.b dJ12_fill_24 (by decide) h10
set_option maxHeartbeats 4000000 in
theorem tJ12_fill_0 {x : CX} {E : Nat → Value} {Q : Rs → HS → Prop} {X10 : Ct} (EN : EX x E) (G : Gd x cJ12_fill "java/util/Arrays" yJ12_fill 5 (Option.none : Option Jvm.ClassFile.FieldType) Q) (hF : x.1.2.2.2.frames = 3 ∧ x.1.2.2.2.locals = 86) (hC : x.2.2.2.2.2 = (fun _ => false)) (hxt : (∀ z ∈ x.2.2.1.2.1.exceptionTable.toList, False)) (h10 : Snd x 10 X10) : Snd x 0 (bJ12_fill_0 E Q X10) := by
  unfold bJ12_fill_0
  refine s_aload_n rfl G.b dJ12_fill_0 ?_
  refine s_alen G.b G.kn dJ12_fill_1 ?_
  refine s_iload_n rfl G.b dJ12_fill_2 ?_
  refine s_iload_n rfl G.b dJ12_fill_3 ?_
  refine s_callS G (mJ12_rangeCheck EN) q1443 q1444 q94 q1445 nmk_152 (rm_of hF (Nat.le_of_ble_eq_true rfl) (Nat.le_of_ble_eq_true rfl)) dJ12_fill_4 ?_ (sx_out G (fun z hz => (hxt z hz).elim))
  refine s_iload_n rfl G.b dJ12_fill_7 ?_
  refine s_istore G.b (by rw [G.nl]; decide) (fun _ _ => by rw [hC]) dJ12_fill_8 ?_
  exact h10
set_option maxHeartbeats 4000000 in
theorem mJ12_fill {l : Launch} {D : DE} {s0 : State} {E : Nat → Value} (EN : EV l D s0 E) : rMet l D s0 yJ12_fill (ws_ yJ12_fill cJ12_fill 5 (Option.none : Option Jvm.ClassFile.FieldType)) 3 86 (wJ12_fill E) := by
  refine body_met (fun _ => false) EN.kn (fun w h => h) (by decide +kernel) rfl (fun av h Q hw => ?_) ?_
  · unfold wJ12_fill at hw
    split at hw
    · exact Nat.le_of_ble_eq_true rfl
    · exact hw.elim
  · intro p e s m below meth c av h Q hxt G hw
    unfold wJ12_fill at hw
    split at hw
    · exact tJ12_fill_0 EN G ⟨rfl, rfl⟩ rfl hxt (fun _ _ _ h => h) _ _ _ (hw (AW _ 10) (tJ12_fill_10 EN G ⟨rfl, rfl⟩ rfl hxt (fun _ _ _ h => h)))
    · exact hw.elim
/-! java/lang/StringLatin1.fillNull([BII)V (J17_fillNull) -/
theorem nmk_153 : nm_ok yJ12_fill 4 := ⟨by decide +kernel, by decide +kernel, by decide +kernel⟩
def bJ17_fillNull_0 (E : Nat → Value) (Q : Rs → HS → Prop) : Ct :=
  o_aload 0 <|
  o_iload 1 <|
  o_iload 2 <|
  o_push (.int 0) <|
  o_call 4 (wJ12_fill E) (x_out Q) <|
  o_return Q
def wJ17_fillNull (E : Nat → Value) : Wp := fun av h Q => match av with
  | [a0, a1, a2] => bJ17_fillNull_0 E Q [a0, a1, a2] [] h
  | _ => False
set_option maxHeartbeats 4000000 in
theorem tJ17_fillNull_0 {x : CX} {E : Nat → Value} {Q : Rs → HS → Prop} (EN : EX x E) (G : Gd x cJ17_fillNull "java/lang/StringLatin1" yJ17_fillNull 3 (Option.none : Option Jvm.ClassFile.FieldType) Q) (hF : x.1.2.2.2.frames = 4 ∧ x.1.2.2.2.locals = 110) (hC : x.2.2.2.2.2 = (fun _ => false)) (hxt : (∀ z ∈ x.2.2.1.2.1.exceptionTable.toList, False)) : Snd x 0 (bJ17_fillNull_0 E Q) := by
  unfold bJ17_fillNull_0
  refine s_aload_n rfl G.b dJ17_fillNull_0 ?_
  refine s_iload_n rfl G.b dJ17_fillNull_1 ?_
  refine s_iload_n rfl G.b dJ17_fillNull_2 ?_
  refine s_iconst (by decide) G.b dJ17_fillNull_3 ?_
  refine s_callS G (mJ12_fill EN) q1440 q1441 q94 q1442 nmk_153 (rm_of hF (Nat.le_of_ble_eq_true rfl) (Nat.le_of_ble_eq_true rfl)) dJ17_fillNull_4 ?_ (sx_out G (fun z hz => (hxt z hz).elim))
  exact s_return G dJ17_fillNull_7
set_option maxHeartbeats 4000000 in
theorem mJ17_fillNull {l : Launch} {D : DE} {s0 : State} {E : Nat → Value} (EN : EV l D s0 E) : rMet l D s0 yJ17_fillNull (ws_ yJ17_fillNull cJ17_fillNull 3 (Option.none : Option Jvm.ClassFile.FieldType)) 4 110 (wJ17_fillNull E) := by
  refine body_met (fun _ => false) EN.kn (fun w h => h) (by decide +kernel) rfl (fun av h Q hw => ?_) ?_
  · unfold wJ17_fillNull at hw
    split at hw
    · exact Nat.le_of_ble_eq_true rfl
    · exact hw.elim
  · intro p e s m below meth c av h Q hxt G hw
    unfold wJ17_fillNull at hw
    split at hw
    · exact tJ17_fillNull_0 EN G ⟨rfl, rfl⟩ rfl hxt _ _ _ hw
    · exact hw.elim
/-! java/lang/StringUTF16.fillNull([BII)V (J7_fillNull) -/
def bJ7_fillNull_0 (E : Nat → Value) (Q : Rs → HS → Prop) : Ct :=
  o_aload 0 <|
  o_iload 1 <|
  o_push (.int 1) <|
  o_ishl <|
  o_iload 2 <|
  o_push (.int 1) <|
  o_ishl <|
  o_push (.int 0) <|
  o_call 4 (wJ12_fill E) (x_out Q) <|
  o_return Q
def wJ7_fillNull (E : Nat → Value) : Wp := fun av h Q => match av with
  | [a0, a1, a2] => bJ7_fillNull_0 E Q [a0, a1, a2] [] h
  | _ => False
set_option maxHeartbeats 4000000 in
theorem tJ7_fillNull_0 {x : CX} {E : Nat → Value} {Q : Rs → HS → Prop} (EN : EX x E) (G : Gd x cJ7_fillNull "java/lang/StringUTF16" yJ7_fillNull 3 (Option.none : Option Jvm.ClassFile.FieldType) Q) (hF : x.1.2.2.2.frames = 4 ∧ x.1.2.2.2.locals = 110) (hC : x.2.2.2.2.2 = (fun _ => false)) (hxt : (∀ z ∈ x.2.2.1.2.1.exceptionTable.toList, False)) : Snd x 0 (bJ7_fillNull_0 E Q) := by
  unfold bJ7_fillNull_0
  refine s_aload_n rfl G.b dJ7_fillNull_0 ?_
  refine s_iload_n rfl G.b dJ7_fillNull_1 ?_
  refine s_iconst (by decide) G.b dJ7_fillNull_2 ?_
  refine s_ishl G.b dJ7_fillNull_3 ?_
  refine s_iload_n rfl G.b dJ7_fillNull_4 ?_
  refine s_iconst (by decide) G.b dJ7_fillNull_5 ?_
  refine s_ishl G.b dJ7_fillNull_6 ?_
  refine s_iconst (by decide) G.b dJ7_fillNull_7 ?_
  refine s_callS G (mJ12_fill EN) q1449 q1441 q94 q1442 nmk_153 (rm_of hF (Nat.le_of_ble_eq_true rfl) (Nat.le_of_ble_eq_true rfl)) dJ7_fillNull_8 ?_ (sx_out G (fun z hz => (hxt z hz).elim))
  exact s_return G dJ7_fillNull_11
set_option maxHeartbeats 4000000 in
theorem mJ7_fillNull {l : Launch} {D : DE} {s0 : State} {E : Nat → Value} (EN : EV l D s0 E) : rMet l D s0 yJ7_fillNull (ws_ yJ7_fillNull cJ7_fillNull 3 (Option.none : Option Jvm.ClassFile.FieldType)) 4 110 (wJ7_fillNull E) := by
  refine body_met (fun _ => false) EN.kn (fun w h => h) (by decide +kernel) rfl (fun av h Q hw => ?_) ?_
  · unfold wJ7_fillNull at hw
    split at hw
    · exact Nat.le_of_ble_eq_true rfl
    · exact hw.elim
  · intro p e s m below meth c av h Q hxt G hw
    unfold wJ7_fillNull at hw
    split at hw
    · exact tJ7_fillNull_0 EN G ⟨rfl, rfl⟩ rfl hxt _ _ _ hw
    · exact hw.elim
/-! java/lang/AbstractStringBuilder.setLength(I)V (J4_setLength) -/
theorem fa_62 : fieldAt [18] 2 "java/lang/AbstractStringBuilder" "maybeLatin1" "Z" := fa_cons (r := (RJ5, TJ5, 4)) rfl (by decide) rfl rfl rfl (fa_nil)
theorem nmk_154 : nm_ok yJ7_fillNull 3 := ⟨by decide +kernel, by decide +kernel, by decide +kernel⟩
theorem nmk_155 : nm_ok yJ17_fillNull 3 := ⟨by decide +kernel, by decide +kernel, by decide +kernel⟩
def bJ4_setLength_76 (E : Nat → Value) (Q : Rs → HS → Prop) : Ct :=
  o_aload 0 <|
  o_iload 1 <|
  o_putf [18] 3 .int <|
  o_return Q
def bJ4_setLength_63 (E : Nat → Value) (Q : Rs → HS → Prop) : Ct :=
  o_aload 0 <|
  o_getf [18] 3 <|
  o_iload 1 <|
  o_icmple (bJ4_setLength_76 E Q) <|
  o_aload 0 <|
  o_push (.int 1) <|
  o_putf [18] 2 .boolean <|
  (bJ4_setLength_76 E Q)
def bJ4_setLength_48 (E : Nat → Value) (Q : Rs → HS → Prop) : Ct :=
  o_aload 0 <|
  o_getf [18] 0 <|
  o_aload 0 <|
  o_getf [18] 3 <|
  o_iload 1 <|
  o_call 3 (wJ7_fillNull E) (x_out Q) <|
  (bJ4_setLength_76 E Q)
def bJ4_setLength_13 (E : Nat → Value) (Q : Rs → HS → Prop) : Ct :=
  o_aload 0 <|
  o_iload 1 <|
  o_callV [18] 2 (wJ4_ensureCapacityInternal E) (x_out Q) <|
  o_aload 0 <|
  o_getf [18] 3 <|
  o_iload 1 <|
  o_icmpge (bJ4_setLength_63 E Q) <|
  o_aload 0 <|
  o_callV [18] 1 (wJ4_isLatin1 E) (x_out Q) <|
  o_ifeq (bJ4_setLength_48 E Q) <|
  o_aload 0 <|
  o_getf [18] 0 <|
  o_aload 0 <|
  o_getf [18] 3 <|
  o_iload 1 <|
  o_call 3 (wJ17_fillNull E) (x_out Q) <|
  (bJ4_setLength_76 E Q)
def bJ4_setLength_0 (E : Nat → Value) (Q : Rs → HS → Prop) : Ct :=
  o_iload 1 <|
  o_ifge (bJ4_setLength_13 E Q) <|
  o_no
def wJ4_setLength (E : Nat → Value) : Wp := fun av h Q => match av with
  | [a0, a1] => bJ4_setLength_0 E Q [a0, a1] [] h
  | _ => False
set_option maxHeartbeats 4000000 in
theorem tJ4_setLength_76 {x : CX} {E : Nat → Value} {Q : Rs → HS → Prop} (EN : EX x E) (G : Gd x cJ4_setLength "java/lang/AbstractStringBuilder" yJ4_setLength 2 (Option.none : Option Jvm.ClassFile.FieldType) Q) (hF : x.1.2.2.2.frames = 10 ∧ x.1.2.2.2.locals = 244) (hC : x.2.2.2.2.2 = (fun _ => false)) (hxt : (∀ z ∈ x.2.2.1.2.1.exceptionTable.toList, False)) : Snd x 76 (bJ4_setLength_76 E Q) := by
  unfold bJ4_setLength_76
  refine s_aload_n rfl G.b dJ4_setLength_76 ?_
  refine s_iload_n rfl G.b dJ4_setLength_77 ?_
  refine s_putf G.b G.ow G.kn (G.hts _ q249) (fun _ h => h) fa_23 (la_cons (r := (RJ5, TJ5, 4)) G.hts (by decide) rfl q256 (la_nil)) (by decide +kernel) dJ4_setLength_78 ?_
  exact s_return G dJ4_setLength_81
set_option maxHeartbeats 4000000 in
theorem tJ4_setLength_63 {x : CX} {E : Nat → Value} {Q : Rs → HS → Prop} (EN : EX x E) (G : Gd x cJ4_setLength "java/lang/AbstractStringBuilder" yJ4_setLength 2 (Option.none : Option Jvm.ClassFile.FieldType) Q) (hF : x.1.2.2.2.frames = 10 ∧ x.1.2.2.2.locals = 244) (hC : x.2.2.2.2.2 = (fun _ => false)) (hxt : (∀ z ∈ x.2.2.1.2.1.exceptionTable.toList, False)) : Snd x 63 (bJ4_setLength_63 E Q) := by
  unfold bJ4_setLength_63
  refine s_aload_n rfl G.b dJ4_setLength_63 ?_
  refine s_getf G.b G.ow G.kn (G.hts _ q249) (fun _ h => h) fa_23 dJ4_setLength_64 ?_
  refine s_iload_n rfl G.b dJ4_setLength_67 ?_
  refine s_icmple (tgt := 76) G.b dJ4_setLength_68 (by decide) (tJ4_setLength_76 EN G hF hC hxt) ?_
  refine s_aload_n rfl G.b dJ4_setLength_71 ?_
  refine s_iconst (by decide) G.b dJ4_setLength_72 ?_
  refine s_putf G.b G.ow G.kn (G.hts _ q247) (fun _ h => h) fa_62 (la_cons (r := (RJ5, TJ5, 4)) G.hts (by decide) rfl q254 (la_nil)) (by decide +kernel) dJ4_setLength_73 ?_
  exact (tJ4_setLength_76 EN G hF hC hxt)
set_option maxHeartbeats 4000000 in
theorem tJ4_setLength_48 {x : CX} {E : Nat → Value} {Q : Rs → HS → Prop} (EN : EX x E) (G : Gd x cJ4_setLength "java/lang/AbstractStringBuilder" yJ4_setLength 2 (Option.none : Option Jvm.ClassFile.FieldType) Q) (hF : x.1.2.2.2.frames = 10 ∧ x.1.2.2.2.locals = 244) (hC : x.2.2.2.2.2 = (fun _ => false)) (hxt : (∀ z ∈ x.2.2.1.2.1.exceptionTable.toList, False)) : Snd x 48 (bJ4_setLength_48 E Q) := by
  unfold bJ4_setLength_48
  refine s_aload_n rfl G.b dJ4_setLength_48 ?_
  refine s_getf G.b G.ow G.kn (G.hts _ q245) (fun _ h => h) fa_7 dJ4_setLength_49 ?_
  refine s_aload_n rfl G.b dJ4_setLength_52 ?_
  refine s_getf G.b G.ow G.kn (G.hts _ q249) (fun _ h => h) fa_23 dJ4_setLength_53 ?_
  refine s_iload_n rfl G.b dJ4_setLength_56 ?_
  refine s_callS G (mJ7_fillNull EN) q1446 q1447 q87 q1448 nmk_154 (rm_of hF (Nat.le_of_ble_eq_true rfl) (Nat.le_of_ble_eq_true rfl)) dJ4_setLength_57 ?_ (sx_out G (fun z hz => (hxt z hz).elim))
  exact s_goto (tgt := 76) G.b dJ4_setLength_60 (by decide) (tJ4_setLength_76 EN G hF hC hxt)
set_option maxHeartbeats 4000000 in
theorem tJ4_setLength_13 {x : CX} {E : Nat → Value} {Q : Rs → HS → Prop} (EN : EX x E) (G : Gd x cJ4_setLength "java/lang/AbstractStringBuilder" yJ4_setLength 2 (Option.none : Option Jvm.ClassFile.FieldType) Q) (hF : x.1.2.2.2.frames = 10 ∧ x.1.2.2.2.locals = 244) (hC : x.2.2.2.2.2 = (fun _ => false)) (hxt : (∀ z ∈ x.2.2.1.2.1.exceptionTable.toList, False)) : Snd x 13 (bJ4_setLength_13 E Q) := by
  unfold bJ4_setLength_13
  refine s_aload_n rfl G.b dJ4_setLength_13 ?_
  refine s_iload_n rfl G.b dJ4_setLength_14 ?_
  refine s_callVP EN (by decide) G (mJ4_ensureCapacityInternal EN) q1135 q1136 q1137 q2347 q84 q1138 nmk_46 (rm_of hF (Nat.le_of_ble_eq_true rfl) (Nat.le_of_ble_eq_true rfl)) dJ4_setLength_15 ?_ (sx_out G (fun z hz => (hxt z hz).elim))
  refine s_aload_n rfl G.b dJ4_setLength_18 ?_
  refine s_getf G.b G.ow G.kn (G.hts _ q249) (fun _ h => h) fa_23 dJ4_setLength_19 ?_
  refine s_iload_n rfl G.b dJ4_setLength_22 ?_
  refine s_icmpge (tgt := 63) G.b dJ4_setLength_23 (by decide) (tJ4_setLength_63 EN G hF hC hxt) ?_
  refine s_aload_n rfl G.b dJ4_setLength_26 ?_
  refine s_callV G (mJ4_isLatin1 EN) q1153 q1154 (sel_cons (r := (RJ5, TJ5, 4)) (by decide) rfl q1156 (sel_nil)) q84 q1157 nmk_40 (rm_of hF (Nat.le_of_ble_eq_true rfl) (Nat.le_of_ble_eq_true rfl)) dJ4_setLength_27 ?_ (sx_out G (fun z hz => (hxt z hz).elim))
  refine s_ifeq (tgt := 48) G.b dJ4_setLength_30 (by decide) (tJ4_setLength_48 EN G hF hC hxt) ?_
  refine s_aload_n rfl G.b dJ4_setLength_33 ?_
  refine s_getf G.b G.ow G.kn (G.hts _ q245) (fun _ h => h) fa_7 dJ4_setLength_34 ?_
  refine s_aload_n rfl G.b dJ4_setLength_37 ?_
  refine s_getf G.b G.ow G.kn (G.hts _ q249) (fun _ h => h) fa_23 dJ4_setLength_38 ?_
  refine s_iload_n rfl G.b dJ4_setLength_41 ?_
  refine s_callS G (mJ17_fillNull EN) q1437 q1438 q105 q1439 nmk_155 (rm_of hF (Nat.le_of_ble_eq_true rfl) (Nat.le_of_ble_eq_true rfl)) dJ4_setLength_42 ?_ (sx_out G (fun z hz => (hxt z hz).elim))
  exact s_goto (tgt := 76) G.b dJ4_setLength_45 (by decide) (tJ4_setLength_76 EN G hF hC hxt)
set_option maxHeartbeats 4000000 in
theorem tJ4_setLength_0 {x : CX} {E : Nat → Value} {Q : Rs → HS → Prop} (EN : EX x E) (G : Gd x cJ4_setLength "java/lang/AbstractStringBuilder" yJ4_setLength 2 (Option.none : Option Jvm.ClassFile.FieldType) Q) (hF : x.1.2.2.2.frames = 10 ∧ x.1.2.2.2.locals = 244) (hC : x.2.2.2.2.2 = (fun _ => false)) (hxt : (∀ z ∈ x.2.2.1.2.1.exceptionTable.toList, False)) : Snd x 0 (bJ4_setLength_0 E Q) := by
  unfold bJ4_setLength_0
  refine s_iload_n rfl G.b dJ4_setLength_0 ?_
  refine s_ifge (tgt := 13) G.b dJ4_setLength_1 (by decide) (tJ4_setLength_13 EN G hF hC hxt) ?_
  exact s_no
set_option maxHeartbeats 4000000 in
theorem mJ4_setLength {l : Launch} {D : DE} {s0 : State} {E : Nat → Value} (EN : EV l D s0 E) : rMet l D s0 yJ4_setLength (ws_ yJ4_setLength cJ4_setLength 2 (Option.none : Option Jvm.ClassFile.FieldType)) 10 244 (wJ4_setLength E) := by
  refine body_met (fun _ => false) EN.kn (fun w h => h) (by decide +kernel) rfl (fun av h Q hw => ?_) ?_
  · unfold wJ4_setLength at hw
    split at hw
    · exact Nat.le_of_ble_eq_true rfl
    · exact hw.elim
  · intro p e s m below meth c av h Q hxt G hw
    unfold wJ4_setLength at hw
    split at hw
    · exact tJ4_setLength_0 EN G ⟨rfl, rfl⟩ rfl hxt _ _ _ hw
    · exact hw.elim
/-! java/lang/StringBuilder.setLength(I)V (J5_setLength) -/
theorem nmk_156 : nm_ok yJ4_setLength 1 := ⟨by decide +kernel, by decide +kernel, by decide +kernel⟩
def bJ5_setLength_0 (E : Nat → Value) (Q : Rs → HS → Prop) : Ct :=
  o_aload 0 <|
  o_iload 1 <|
  o_callV [18] 2 (wJ4_setLength E) (x_out Q) <|
  o_return Q
def wJ5_setLength (E : Nat → Value) : Wp := fun av h Q => match av with
  | [a0, a1] => bJ5_setLength_0 E Q [a0, a1] [] h
  | _ => False
set_option maxHeartbeats 4000000 in
theorem tJ5_setLength_0 {x : CX} {E : Nat → Value} {Q : Rs → HS → Prop} (EN : EX x E) (G : Gd x cJ5_setLength "java/lang/StringBuilder" yJ5_setLength 2 (Option.none : Option Jvm.ClassFile.FieldType) Q) (hF : x.1.2.2.2.frames = 11 ∧ x.1.2.2.2.locals = 265) (hC : x.2.2.2.2.2 = (fun _ => false)) (hxt : (∀ z ∈ x.2.2.1.2.1.exceptionTable.toList, False)) : Snd x 0 (bJ5_setLength_0 E Q) := by
  unfold bJ5_setLength_0
  refine s_aload_n rfl G.b dJ5_setLength_0 ?_
  refine s_iload_n rfl G.b dJ5_setLength_1 ?_
  refine s_callSU (by decide) G (mJ4_setLength EN) q1434 q2354 q258 q1435 q84 q1436 (by decide) nmk_156 (rm_of hF (Nat.le_of_ble_eq_true rfl) (Nat.le_of_ble_eq_true rfl)) dJ5_setLength_2 ?_ (sx_out G (fun z hz => (hxt z hz).elim))
  exact s_return G dJ5_setLength_5
set_option maxHeartbeats 4000000 in
theorem mJ5_setLength {l : Launch} {D : DE} {s0 : State} {E : Nat → Value} (EN : EV l D s0 E) : rMet l D s0 yJ5_setLength (ws_ yJ5_setLength cJ5_setLength 2 (Option.none : Option Jvm.ClassFile.FieldType)) 11 265 (wJ5_setLength E) := by
  refine body_met (fun _ => false) EN.kn (fun w h => h) (by decide +kernel) rfl (fun av h Q hw => ?_) ?_
  · unfold wJ5_setLength at hw
    split at hw
    · exact Nat.le_of_ble_eq_true rfl
    · exact hw.elim
  · intro p e s m below meth c av h Q hxt G hw
    unfold wJ5_setLength at hw
    split at hw
    · exact tJ5_setLength_0 EN G ⟨rfl, rfl⟩ rfl hxt _ _ _ hw
    · exact hw.elim
/-! ChantRules.clear()I (X0_clear) -/
theorem nmk_157 : nm_ok yJ5_setLength 1 := ⟨by decide +kernel, by decide +kernel, by decide +kernel⟩
def bX0_clear_0 (E : Nat → Value) (Q : Rs → HS → Prop) : Ct :=
  o_aload 0 <|
  o_getf [0] 8 <|
  o_callV [18] 1 (wJ5_length E) (x_out Q) <|
  o_istore 1 <|
  o_aload 0 <|
  o_getf [0] 8 <|
  o_push (.int 0) <|
  o_callV [18] 2 (wJ5_setLength E) (x_out Q) <|
  o_iload 1 <|
  o_ireturn .int Q
def wX0_clear (E : Nat → Value) : Wp := fun av h Q => match av with
  | [a0] => bX0_clear_0 E Q [a0, jk] [] h
  | _ => False
set_option maxHeartbeats 4000000 in
theorem tX0_clear_0 {x : CX} {E : Nat → Value} {Q : Rs → HS → Prop} (EN : EX x E) (G : Gd x cX0_clear "ChantRules" yX0_clear 2 (Option.some Jvm.ClassFile.FieldType.int) Q) (hF : x.1.2.2.2.frames = 12 ∧ x.1.2.2.2.locals = 286) (hC : x.2.2.2.2.2 = (fun _ => false)) (hxt : (∀ z ∈ x.2.2.1.2.1.exceptionTable.toList, False)) : Snd x 0 (bX0_clear_0 E Q) := by
  unfold bX0_clear_0
  refine s_aload_n rfl G.b dX0_clear_0 ?_
  refine s_getf G.b G.ow G.kn (G.hts _ q307) (fun _ h => h) fa_13 dX0_clear_1 ?_
  refine s_callV G (mJ5_length EN) q936 q937 (sel_cons (r := (RJ5, TJ5, 4)) (by decide) rfl q938 (sel_nil)) q85 q939 nmk_24 (rm_of hF (Nat.le_of_ble_eq_true rfl) (Nat.le_of_ble_eq_true rfl)) dX0_clear_4 ?_ (sx_out G (fun z hz => (hxt z hz).elim))
  refine s_istore_n rfl G.b (by rw [G.nl]; decide) (fun _ _ => by rw [hC]) dX0_clear_7 ?_
  refine s_aload_n rfl G.b dX0_clear_8 ?_
  refine s_getf G.b G.ow G.kn (G.hts _ q307) (fun _ h => h) fa_13 dX0_clear_9 ?_
  refine s_iconst (by decide) G.b dX0_clear_12 ?_
  refine s_callV G (mJ5_setLength EN) q1430 q1431 (sel_cons (r := (RJ5, TJ5, 4)) (by decide) rfl q1432 (sel_nil)) q85 q1433 nmk_157 (rm_of hF (Nat.le_of_ble_eq_true rfl) (Nat.le_of_ble_eq_true rfl)) dX0_clear_13 ?_ (sx_out G (fun z hz => (hxt z hz).elim))
  refine s_iload_n rfl G.b dX0_clear_16 ?_
  exact s_ireturn G dX0_clear_17
set_option maxHeartbeats 4000000 in
theorem mX0_clear {l : Launch} {D : DE} {s0 : State} {E : Nat → Value} (EN : EV l D s0 E) : rMet l D s0 yX0_clear (ws_ yX0_clear cX0_clear 2 (Option.some Jvm.ClassFile.FieldType.int)) 12 286 (wX0_clear E) := by
  refine body_met (fun _ => false) EN.kn (fun w h => h) (by decide +kernel) rfl (fun av h Q hw => ?_) ?_
  · unfold wX0_clear at hw
    split at hw
    · exact Nat.le_of_ble_eq_true rfl
    · exact hw.elim
  · intro p e s m below meth c av h Q hxt G hw
    unfold wX0_clear at hw
    split at hw
    · exact tX0_clear_0 EN G ⟨rfl, rfl⟩ rfl hxt _ _ _ hw
    · exact hw.elim
/-! ChantRules$Machine.usefulMany()I (X2_usefulMany) -/
theorem nmk_158 : nm_ok yX2_useful_2 0 := ⟨by decide +kernel, by decide +kernel, by decide +kernel⟩
def bX2_usefulMany_44 (E : Nat → Value) (Q : Rs → HS → Prop) (X13 : Ct) : Ct :=
  o_iload 1 <|
  o_ireturn .int Q
def bX2_usefulMany_36 (E : Nat → Value) (Q : Rs → HS → Prop) (X13 : Ct) : Ct :=
  o_iadd <|
  o_istore 1 <|
  o_iinc 4 1 <|
  X13
def bX2_usefulMany_35 (E : Nat → Value) (Q : Rs → HS → Prop) (X13 : Ct) : Ct :=
  o_push (.int 0) <|
  (bX2_usefulMany_36 E Q X13)
def bX2_usefulMany_13 (E : Nat → Value) (Q : Rs → HS → Prop) (X13 : Ct) : Ct :=
  o_iload 4 <|
  o_iload 3 <|
  o_icmpge (bX2_usefulMany_44 E Q X13) <|
  o_aload 2 <|
  o_iload 4 <|
  o_ald [101, 102] <|
  o_istore 5 <|
  o_iload 1 <|
  o_iload 5 <|
  o_ifeq (bX2_usefulMany_35 E Q X13) <|
  o_push (.int 1) <|
  (bX2_usefulMany_36 E Q X13)
def bX2_usefulMany_0 (E : Nat → Value) (Q : Rs → HS → Prop) (X13 : Ct) : Ct :=
  o_push (.int 0) <|
  o_istore 1 <|
  o_aload 0 <|
  o_callV [2, 4] 1 (wX2_useful_2 E) (x_out Q) <|
  o_astore 2 <|
  o_aload 2 <|
  o_alen <|
  o_istore 3 <|
  o_push (.int 0) <|
  o_istore 4 <|
  X13
def wX2_usefulMany (E : Nat → Value) : Wp := fun av h Q => match av with
  | [a0] => ∀ X13 : Ct, (∀ ls st h, bX2_usefulMany_13 E Q X13 ls st h → X13 ls st h) → bX2_usefulMany_0 E Q X13 [a0, jk, jk, jk, jk, jk] [] h
  | _ => False
set_option maxHeartbeats 4000000 in
theorem tX2_usefulMany_44 {x : CX} {E : Nat → Value} {Q : Rs → HS → Prop} {X13 : Ct} (EN : EX x E) (G : Gd x cX2_usefulMany "ChantRules$Machine" yX2_usefulMany 6 (Option.some Jvm.ClassFile.FieldType.int) Q) (hF : x.1.2.2.2.frames = 7 ∧ x.1.2.2.2.locals = 178) (hC : x.2.2.2.2.2 = (fun _ => false)) (hxt : (∀ z ∈ x.2.2.1.2.1.exceptionTable.toList, False)) (h13 : Snd x 13 X13) : Snd x 44 (bX2_usefulMany_44 E Q X13) := by
  unfold bX2_usefulMany_44
  refine s_iload_n rfl G.b dX2_usefulMany_44 ?_
  exact s_ireturn G dX2_usefulMany_45
set_option maxHeartbeats 4000000 in
theorem tX2_usefulMany_36 {x : CX} {E : Nat → Value} {Q : Rs → HS → Prop} {X13 : Ct} (EN : EX x E) (G : Gd x cX2_usefulMany "ChantRules$Machine" yX2_usefulMany 6 (Option.some Jvm.ClassFile.FieldType.int) Q) (hF : x.1.2.2.2.frames = 7 ∧ x.1.2.2.2.locals = 178) (hC : x.2.2.2.2.2 = (fun _ => false)) (hxt : (∀ z ∈ x.2.2.1.2.1.exceptionTable.toList, False)) (h13 : Snd x 13 X13) : Snd x 36 (bX2_usefulMany_36 E Q X13) := by
  unfold bX2_usefulMany_36
  refine s_iadd G.b dX2_usefulMany_36 ?_
  refine s_istore_n rfl G.b (by rw [G.nl]; decide) (fun _ _ => by rw [hC]) dX2_usefulMany_37 ?_
  refine s_iinc (by decide) G.b (by rw [G.nl]; decide) (fun _ _ => by rw [hC]) dX2_usefulMany_38 ?_
  exact s_goto (tgt := 13) G.b dX2_usefulMany_41 (by decide) h13
set_option maxHeartbeats 4000000 in
theorem tX2_usefulMany_35 {x : CX} {E : Nat → Value} {Q : Rs → HS → Prop} {X13 : Ct} (EN : EX x E) (G : Gd x cX2_usefulMany "ChantRules$Machine" yX2_usefulMany 6 (Option.some Jvm.ClassFile.FieldType.int) Q) (hF : x.1.2.2.2.frames = 7 ∧ x.1.2.2.2.locals = 178) (hC : x.2.2.2.2.2 = (fun _ => false)) (hxt : (∀ z ∈ x.2.2.1.2.1.exceptionTable.toList, False)) (h13 : Snd x 13 X13) : Snd x 35 (bX2_usefulMany_35 E Q X13) := by
  unfold bX2_usefulMany_35
  refine s_iconst (by decide) G.b dX2_usefulMany_35 ?_
  exact (tX2_usefulMany_36 EN G hF hC hxt h13)
set_option maxHeartbeats 4000000 in
theorem tX2_usefulMany_13 {x : CX} {E : Nat → Value} {Q : Rs → HS → Prop} {X13 : Ct} (EN : EX x E) (G : Gd x cX2_usefulMany "ChantRules$Machine" yX2_usefulMany 6 (Option.some Jvm.ClassFile.FieldType.int) Q) (hF : x.1.2.2.2.frames = 7 ∧ x.1.2.2.2.locals = 178) (hC : x.2.2.2.2.2 = (fun _ => false)) (hxt : (∀ z ∈ x.2.2.1.2.1.exceptionTable.toList, False)) (h13 : Snd x 13 X13) : Snd x 13 (bX2_usefulMany_13 E Q X13) := by
  unfold bX2_usefulMany_13
  refine s_iload G.b dX2_usefulMany_13 ?_
  refine s_iload_n rfl G.b dX2_usefulMany_15 ?_
  refine s_icmpge (tgt := 44) G.b dX2_usefulMany_16 (by decide) (tX2_usefulMany_44 EN G hF hC hxt h13) ?_
  refine s_aload_n rfl G.b dX2_usefulMany_19 ?_
  refine s_iload G.b dX2_usefulMany_20 ?_
  refine s_bald G.b G.kn dX2_usefulMany_22 ?_
  refine s_istore G.b (by rw [G.nl]; decide) (fun _ _ => by rw [hC]) dX2_usefulMany_23 ?_
  refine s_iload_n rfl G.b dX2_usefulMany_25 ?_
  refine s_iload G.b dX2_usefulMany_26 ?_
  refine s_ifeq (tgt := 35) G.b dX2_usefulMany_28 (by decide) (tX2_usefulMany_35 EN G hF hC hxt h13) ?_
  refine s_iconst (by decide) G.b dX2_usefulMany_31 ?_
  exact s_goto (tgt := 36) G.b dX2_usefulMany_32 (by decide) (tX2_usefulMany_36 EN G hF hC hxt h13)
set_option maxHeartbeats 4000000 in
theorem tX2_usefulMany_0 {x : CX} {E : Nat → Value} {Q : Rs → HS → Prop} {X13 : Ct} (EN : EX x E) (G : Gd x cX2_usefulMany "ChantRules$Machine" yX2_usefulMany 6 (Option.some Jvm.ClassFile.FieldType.int) Q) (hF : x.1.2.2.2.frames = 7 ∧ x.1.2.2.2.locals = 178) (hC : x.2.2.2.2.2 = (fun _ => false)) (hxt : (∀ z ∈ x.2.2.1.2.1.exceptionTable.toList, False)) (h13 : Snd x 13 X13) : Snd x 0 (bX2_usefulMany_0 E Q X13) := by
  unfold bX2_usefulMany_0
  refine s_iconst (by decide) G.b dX2_usefulMany_0 ?_
  refine s_istore_n rfl G.b (by rw [G.nl]; decide) (fun _ _ => by rw [hC]) dX2_usefulMany_1 ?_
  refine s_aload_n rfl G.b dX2_usefulMany_2 ?_
  refine s_callV G (mX2_useful_2 EN) q901 q902 (sel_cons (r := (RX3, TX3, 3)) (by decide) rfl q905 (sel_cons (r := (RX11, TX11, 3)) (by decide) rfl q904 (sel_nil))) q78 q906 nmk_158 (rm_of hF (Nat.le_of_ble_eq_true rfl) (Nat.le_of_ble_eq_true rfl)) dX2_usefulMany_3 ?_ (sx_out G (fun z hz => (hxt z hz).elim))
  refine s_astore_n rfl G.b (by rw [G.nl]; decide) (fun _ _ => by rw [hC]) dX2_usefulMany_6 ?_
  refine s_aload_n rfl G.b dX2_usefulMany_7 ?_
  refine s_alen G.b G.kn dX2_usefulMany_8 ?_
  refine s_istore_n rfl G.b (by rw [G.nl]; decide) (fun _ _ => by rw [hC]) dX2_usefulMany_9 ?_
  refine s_iconst (by decide) G.b dX2_usefulMany_10 ?_
  refine s_istore G.b (by rw [G.nl]; decide) (fun _ _ => by rw [hC]) dX2_usefulMany_11 ?_
  exact h13
set_option maxHeartbeats 4000000 in
theorem mX2_usefulMany {l : Launch} {D : DE} {s0 : State} {E : Nat → Value} (EN : EV l D s0 E) : rMet l D s0 yX2_usefulMany (ws_ yX2_usefulMany cX2_usefulMany 6 (Option.some Jvm.ClassFile.FieldType.int)) 7 178 (wX2_usefulMany E) := by
  refine body_met (fun _ => false) EN.kn (fun w h => h) (by decide +kernel) rfl (fun av h Q hw => ?_) ?_
  · unfold wX2_usefulMany at hw
    split at hw
    · exact Nat.le_of_ble_eq_true rfl
    · exact hw.elim
  · intro p e s m below meth c av h Q hxt G hw
    unfold wX2_usefulMany at hw
    split at hw
    · exact tX2_usefulMany_0 EN G ⟨rfl, rfl⟩ rfl hxt (fun _ _ _ h => h) _ _ _ (hw (AW _ 13) (tX2_usefulMany_13 EN G ⟨rfl, rfl⟩ rfl hxt (fun _ _ _ h => h)))
    · exact hw.elim
/-! ChantRules$Composed.value(I)I (X11_value) -/
theorem nmk_159 : nm_ok ⟨"ChantRules$Composed", "usefulMany", "()I"⟩ 0 := ⟨by decide +kernel, by decide +kernel, by decide +kernel⟩
theorem nmk_160 : nm_ok yX11_end 1 := ⟨by decide +kernel, by decide +kernel, by decide +kernel⟩
theorem nmk_161 : nm_ok yX11_states 0 := ⟨by decide +kernel, by decide +kernel, by decide +kernel⟩
theorem nmk_162 : nm_ok ⟨"ChantRules$Composed", "reached", "()[Z"⟩ 0 := ⟨by decide +kernel, by decide +kernel, by decide +kernel⟩
def bX11_value_224 (E : Nat → Value) (Q : Rs → HS → Prop) (X19 X85 : Ct) : Ct :=
  o_ireturn .int Q
def bX11_value_222 (E : Nat → Value) (Q : Rs → HS → Prop) (X19 X85 : Ct) : Ct :=
  o_push (.int (-12)) <|
  (bX11_value_224 E Q X19 X85)
def bX11_value_217 (E : Nat → Value) (Q : Rs → HS → Prop) (X19 X85 : Ct) : Ct :=
  o_iload 4 <|
  (bX11_value_224 E Q X19 X85)
def bX11_value_212 (E : Nat → Value) (Q : Rs → HS → Prop) (X19 X85 : Ct) : Ct :=
  o_iload 6 <|
  (bX11_value_224 E Q X19 X85)
def bX11_value_207 (E : Nat → Value) (Q : Rs → HS → Prop) (X19 X85 : Ct) : Ct :=
  o_iload 5 <|
  (bX11_value_224 E Q X19 X85)
def bX11_value_200 (E : Nat → Value) (Q : Rs → HS → Prop) (X19 X85 : Ct) : Ct :=
  o_aload 0 <|
  o_callV [4] 1 (wX2_usefulMany E) (x_out Q) <|
  (bX11_value_224 E Q X19 X85)
def bX11_value_196 (E : Nat → Value) (Q : Rs → HS → Prop) (X19 X85 : Ct) : Ct :=
  o_iload 3 <|
  (bX11_value_224 E Q X19 X85)
def bX11_value_162 (E : Nat → Value) (Q : Rs → HS → Prop) (X19 X85 : Ct) : Ct :=
  o_iload 1 <|
  o_sw [(0, (bX11_value_196 E Q X19 X85)), (1, (bX11_value_200 E Q X19 X85)), (2, (bX11_value_207 E Q X19 X85)), (3, (bX11_value_212 E Q X19 X85)), (4, (bX11_value_217 E Q X19 X85))] (bX11_value_222 E Q X19 X85)
def bX11_value_156 (E : Nat → Value) (Q : Rs → HS → Prop) (X19 X85 : Ct) : Ct :=
  o_iadd <|
  o_istore 6 <|
  X85
def bX11_value_155 (E : Nat → Value) (Q : Rs → HS → Prop) (X19 X85 : Ct) : Ct :=
  o_push (.int 0) <|
  (bX11_value_156 E Q X19 X85)
def bX11_value_139 (E : Nat → Value) (Q : Rs → HS → Prop) (X19 X85 : Ct) : Ct :=
  o_ald [101, 102] <|
  o_ifeq (bX11_value_155 E Q X19 X85) <|
  o_aload 8 <|
  o_inst [10] [11] <|
  o_ifeq (bX11_value_155 E Q X19 X85) <|
  o_push (.int 1) <|
  (bX11_value_156 E Q X19 X85)
def bX11_value_126 (E : Nat → Value) (Q : Rs → HS → Prop) (X19 X85 : Ct) : Ct :=
  o_iadd <|
  o_istore 5 <|
  o_iload 6 <|
  o_aload 2 <|
  o_aload 8 <|
  o_vsel 1 [10] (o_callV [10] 1 (wX7_from E) (x_out Q) (bX11_value_139 E Q X19 X85)) (o_callV [11] 1 (wX8_from E) (x_out Q) (bX11_value_139 E Q X19 X85))
def bX11_value_125 (E : Nat → Value) (Q : Rs → HS → Prop) (X19 X85 : Ct) : Ct :=
  o_push (.int 0) <|
  (bX11_value_126 E Q X19 X85)
def bX11_value_117 (E : Nat → Value) (Q : Rs → HS → Prop) (X19 X85 : Ct) : Ct :=
  o_ald [101, 102] <|
  o_ifeq (bX11_value_125 E Q X19 X85) <|
  o_push (.int 1) <|
  (bX11_value_126 E Q X19 X85)
def bX11_value_85 (E : Nat → Value) (Q : Rs → HS → Prop) (X19 X85 : Ct) : Ct :=
  o_aload 7 <|
  o_callV [20] 1 (wJ9_hasNext E) (x_out Q) <|
  o_ifeq (bX11_value_162 E Q X19 X85) <|
  o_aload 7 <|
  o_callV [20] 1 (wJ9_next E) (x_out Q) <|
  o_cast [10, 11] <|
  o_astore 8 <|
  o_iload 5 <|
  o_aload 2 <|
  o_aload 8 <|
  o_vsel 1 [10] (o_callV [10] 1 (wX7_from E) (x_out Q) (bX11_value_117 E Q X19 X85)) (o_callV [11] 1 (wX8_from E) (x_out Q) (bX11_value_117 E Q X19 X85))
def bX11_value_76 (E : Nat → Value) (Q : Rs → HS → Prop) (X19 X85 : Ct) : Ct :=
  o_aload 0 <|
  o_getf [4] 2 <|
  o_callV [15] 1 (wJ2_iterator E) (x_out Q) <|
  o_astore 7 <|
  X85
def bX11_value_67 (E : Nat → Value) (Q : Rs → HS → Prop) (X19 X85 : Ct) : Ct :=
  o_iadd <|
  o_istore 4 <|
  o_iinc 7 1 <|
  X19
def bX11_value_66 (E : Nat → Value) (Q : Rs → HS → Prop) (X19 X85 : Ct) : Ct :=
  o_push (.int 0) <|
  (bX11_value_67 E Q X19 X85)
def bX11_value_41 (E : Nat → Value) (Q : Rs → HS → Prop) (X19 X85 : Ct) : Ct :=
  o_iadd <|
  o_istore 3 <|
  o_iload 4 <|
  o_aload 2 <|
  o_iload 7 <|
  o_ald [101, 102] <|
  o_ifeq (bX11_value_66 E Q X19 X85) <|
  o_aload 0 <|
  o_iload 7 <|
  o_callV [4] 2 (wX11_end E) (x_out Q) <|
  o_push (.int (-1)) <|
  o_icmpeq (bX11_value_66 E Q X19 X85) <|
  o_push (.int 1) <|
  (bX11_value_67 E Q X19 X85)
def bX11_value_40 (E : Nat → Value) (Q : Rs → HS → Prop) (X19 X85 : Ct) : Ct :=
  o_push (.int 0) <|
  (bX11_value_41 E Q X19 X85)
def bX11_value_19 (E : Nat → Value) (Q : Rs → HS → Prop) (X19 X85 : Ct) : Ct :=
  o_iload 7 <|
  o_aload 0 <|
  o_callV [4] 1 (wX11_states E) (x_out Q) <|
  o_icmpge (bX11_value_76 E Q X19 X85) <|
  o_iload 3 <|
  o_aload 2 <|
  o_iload 7 <|
  o_ald [101, 102] <|
  o_ifeq (bX11_value_40 E Q X19 X85) <|
  o_push (.int 1) <|
  (bX11_value_41 E Q X19 X85)
def bX11_value_0 (E : Nat → Value) (Q : Rs → HS → Prop) (X19 X85 : Ct) : Ct :=
  o_aload 0 <|
  o_callV [4] 1 (wX2_reached E) (x_out Q) <|
  o_astore 2 <|
  o_push (.int 0) <|
  o_istore 3 <|
  o_push (.int 0) <|
  o_istore 4 <|
  o_push (.int 0) <|
  o_istore 5 <|
  o_push (.int 0) <|
  o_istore 6 <|
  o_push (.int 0) <|
  o_istore 7 <|
  X19
def wX11_value (E : Nat → Value) : Wp := fun av h Q => match av with
  | [a0, a1] => ∀ X19 X85 : Ct, (∀ ls st h, bX11_value_19 E Q X19 X85 ls st h → X19 ls st h) → (∀ ls st h, bX11_value_85 E Q X19 X85 ls st h → X85 ls st h) → bX11_value_0 E Q X19 X85 [a0, a1, jk, jk, jk, jk, jk, jk, jk] [] h
  | _ => False
set_option maxHeartbeats 4000000 in
theorem tX11_value_224 {x : CX} {E : Nat → Value} {Q : Rs → HS → Prop} {X19 X85 : Ct} (EN : EX x E) (G : Gd x cX11_value "ChantRules$Composed" yX11_value 9 (Option.some Jvm.ClassFile.FieldType.int) Q) (hF : x.1.2.2.2.frames = 8 ∧ x.1.2.2.2.locals = 203) (hC : x.2.2.2.2.2 = (fun _ => false)) (hxt : (∀ z ∈ x.2.2.1.2.1.exceptionTable.toList, False)) (h19 : Snd x 19 X19) (h85 : Snd x 85 X85) : Snd x 224 (bX11_value_224 E Q X19 X85) := by
  unfold bX11_value_224
  exact s_ireturn G dX11_value_224
set_option maxHeartbeats 4000000 in
theorem tX11_value_222 {x : CX} {E : Nat → Value} {Q : Rs → HS → Prop} {X19 X85 : Ct} (EN : EX x E) (G : Gd x cX11_value "ChantRules$Composed" yX11_value 9 (Option.some Jvm.ClassFile.FieldType.int) Q) (hF : x.1.2.2.2.frames = 8 ∧ x.1.2.2.2.locals = 203) (hC : x.2.2.2.2.2 = (fun _ => false)) (hxt : (∀ z ∈ x.2.2.1.2.1.exceptionTable.toList, False)) (h19 : Snd x 19 X19) (h85 : Snd x 85 X85) : Snd x 222 (bX11_value_222 E Q X19 X85) := by
  unfold bX11_value_222
  refine s_bipush (by decide) G.b dX11_value_222 ?_
  exact (tX11_value_224 EN G hF hC hxt h19 h85)
set_option maxHeartbeats 4000000 in
theorem tX11_value_217 {x : CX} {E : Nat → Value} {Q : Rs → HS → Prop} {X19 X85 : Ct} (EN : EX x E) (G : Gd x cX11_value "ChantRules$Composed" yX11_value 9 (Option.some Jvm.ClassFile.FieldType.int) Q) (hF : x.1.2.2.2.frames = 8 ∧ x.1.2.2.2.locals = 203) (hC : x.2.2.2.2.2 = (fun _ => false)) (hxt : (∀ z ∈ x.2.2.1.2.1.exceptionTable.toList, False)) (h19 : Snd x 19 X19) (h85 : Snd x 85 X85) : Snd x 217 (bX11_value_217 E Q X19 X85) := by
  unfold bX11_value_217
  refine s_iload G.b dX11_value_217 ?_
  exact s_goto (tgt := 224) G.b dX11_value_219 (by decide) (tX11_value_224 EN G hF hC hxt h19 h85)
set_option maxHeartbeats 4000000 in
theorem tX11_value_212 {x : CX} {E : Nat → Value} {Q : Rs → HS → Prop} {X19 X85 : Ct} (EN : EX x E) (G : Gd x cX11_value "ChantRules$Composed" yX11_value 9 (Option.some Jvm.ClassFile.FieldType.int) Q) (hF : x.1.2.2.2.frames = 8 ∧ x.1.2.2.2.locals = 203) (hC : x.2.2.2.2.2 = (fun _ => false)) (hxt : (∀ z ∈ x.2.2.1.2.1.exceptionTable.toList, False)) (h19 : Snd x 19 X19) (h85 : Snd x 85 X85) : Snd x 212 (bX11_value_212 E Q X19 X85) := by
  unfold bX11_value_212
  refine s_iload G.b dX11_value_212 ?_
  exact s_goto (tgt := 224) G.b dX11_value_214 (by decide) (tX11_value_224 EN G hF hC hxt h19 h85)
set_option maxHeartbeats 4000000 in
theorem tX11_value_207 {x : CX} {E : Nat → Value} {Q : Rs → HS → Prop} {X19 X85 : Ct} (EN : EX x E) (G : Gd x cX11_value "ChantRules$Composed" yX11_value 9 (Option.some Jvm.ClassFile.FieldType.int) Q) (hF : x.1.2.2.2.frames = 8 ∧ x.1.2.2.2.locals = 203) (hC : x.2.2.2.2.2 = (fun _ => false)) (hxt : (∀ z ∈ x.2.2.1.2.1.exceptionTable.toList, False)) (h19 : Snd x 19 X19) (h85 : Snd x 85 X85) : Snd x 207 (bX11_value_207 E Q X19 X85) := by
  unfold bX11_value_207
  refine s_iload G.b dX11_value_207 ?_
  exact s_goto (tgt := 224) G.b dX11_value_209 (by decide) (tX11_value_224 EN G hF hC hxt h19 h85)
set_option maxHeartbeats 4000000 in
theorem tX11_value_200 {x : CX} {E : Nat → Value} {Q : Rs → HS → Prop} {X19 X85 : Ct} (EN : EX x E) (G : Gd x cX11_value "ChantRules$Composed" yX11_value 9 (Option.some Jvm.ClassFile.FieldType.int) Q) (hF : x.1.2.2.2.frames = 8 ∧ x.1.2.2.2.locals = 203) (hC : x.2.2.2.2.2 = (fun _ => false)) (hxt : (∀ z ∈ x.2.2.1.2.1.exceptionTable.toList, False)) (h19 : Snd x 19 X19) (h85 : Snd x 85 X85) : Snd x 200 (bX11_value_200 E Q X19 X85) := by
  unfold bX11_value_200
  refine s_aload_n rfl G.b dX11_value_200 ?_
  refine s_callVU (w := ⟨"ChantRules$Composed", "usefulMany", "()I"⟩) (owner := "ChantRules$Machine") G (mX2_usefulMany EN) q1370 q1371 (va_Decl.of (G.hts _ q1374) (G.hts _ q1375)) (by decide +kernel) q1374 (sel_cons (r := (RX11, TX11, 3)) (by decide) rfl q1373 (sel_nil)) q78 q1375 nmk_159 (rm_of hF (Nat.le_of_ble_eq_true rfl) (Nat.le_of_ble_eq_true rfl)) dX11_value_201 ?_ (sx_out G (fun z hz => (hxt z hz).elim))
  exact s_goto (tgt := 224) G.b dX11_value_204 (by decide) (tX11_value_224 EN G hF hC hxt h19 h85)
set_option maxHeartbeats 4000000 in
theorem tX11_value_196 {x : CX} {E : Nat → Value} {Q : Rs → HS → Prop} {X19 X85 : Ct} (EN : EX x E) (G : Gd x cX11_value "ChantRules$Composed" yX11_value 9 (Option.some Jvm.ClassFile.FieldType.int) Q) (hF : x.1.2.2.2.frames = 8 ∧ x.1.2.2.2.locals = 203) (hC : x.2.2.2.2.2 = (fun _ => false)) (hxt : (∀ z ∈ x.2.2.1.2.1.exceptionTable.toList, False)) (h19 : Snd x 19 X19) (h85 : Snd x 85 X85) : Snd x 196 (bX11_value_196 E Q X19 X85) := by
  unfold bX11_value_196
  refine s_iload_n rfl G.b dX11_value_196 ?_
  exact s_goto (tgt := 224) G.b dX11_value_197 (by decide) (tX11_value_224 EN G hF hC hxt h19 h85)
set_option maxHeartbeats 4000000 in
theorem tX11_value_162 {x : CX} {E : Nat → Value} {Q : Rs → HS → Prop} {X19 X85 : Ct} (EN : EX x E) (G : Gd x cX11_value "ChantRules$Composed" yX11_value 9 (Option.some Jvm.ClassFile.FieldType.int) Q) (hF : x.1.2.2.2.frames = 8 ∧ x.1.2.2.2.locals = 203) (hC : x.2.2.2.2.2 = (fun _ => false)) (hxt : (∀ z ∈ x.2.2.1.2.1.exceptionTable.toList, False)) (h19 : Snd x 19 X19) (h85 : Snd x 85 X85) : Snd x 162 (bX11_value_162 E Q X19 X85) := by
  unfold bX11_value_162
  refine s_iload_n rfl G.b dX11_value_162 ?_
  exact s_tsw (tD := 222) G.b dX11_value_163 (by decide) (tX11_value_222 EN G hF hC hxt h19 h85) rfl (tsw_0 (tsw_cons (33) 196 (by decide) rfl (by decide) (tX11_value_196 EN G hF hC hxt h19 h85) (tsw_cons (37) 200 (by decide) rfl (by decide) (tX11_value_200 EN G hF hC hxt h19 h85) (tsw_cons (44) 207 (by decide) rfl (by decide) (tX11_value_207 EN G hF hC hxt h19 h85) (tsw_cons (49) 212 (by decide) rfl (by decide) (tX11_value_212 EN G hF hC hxt h19 h85) (tsw_cons (54) 217 (by decide) rfl (by decide) (tX11_value_217 EN G hF hC hxt h19 h85) (tsw_nil)))))))
set_option maxHeartbeats 4000000 in
theorem tX11_value_156 {x : CX} {E : Nat → Value} {Q : Rs → HS → Prop} {X19 X85 : Ct} (EN : EX x E) (G : Gd x cX11_value "ChantRules$Composed" yX11_value 9 (Option.some Jvm.ClassFile.FieldType.int) Q) (hF : x.1.2.2.2.frames = 8 ∧ x.1.2.2.2.locals = 203) (hC : x.2.2.2.2.2 = (fun _ => false)) (hxt : (∀ z ∈ x.2.2.1.2.1.exceptionTable.toList, False)) (h19 : Snd x 19 X19) (h85 : Snd x 85 X85) : Snd x 156 (bX11_value_156 E Q X19 X85) := by
  unfold bX11_value_156
  refine s_iadd G.b dX11_value_156 ?_
  refine s_istore G.b (by rw [G.nl]; decide) (fun _ _ => by rw [hC]) dX11_value_157 ?_
  exact s_goto (tgt := 85) G.b dX11_value_159 (by decide) h85
set_option maxHeartbeats 4000000 in
theorem tX11_value_155 {x : CX} {E : Nat → Value} {Q : Rs → HS → Prop} {X19 X85 : Ct} (EN : EX x E) (G : Gd x cX11_value "ChantRules$Composed" yX11_value 9 (Option.some Jvm.ClassFile.FieldType.int) Q) (hF : x.1.2.2.2.frames = 8 ∧ x.1.2.2.2.locals = 203) (hC : x.2.2.2.2.2 = (fun _ => false)) (hxt : (∀ z ∈ x.2.2.1.2.1.exceptionTable.toList, False)) (h19 : Snd x 19 X19) (h85 : Snd x 85 X85) : Snd x 155 (bX11_value_155 E Q X19 X85) := by
  unfold bX11_value_155
  refine s_iconst (by decide) G.b dX11_value_155 ?_
  exact (tX11_value_156 EN G hF hC hxt h19 h85)
set_option maxHeartbeats 4000000 in
theorem tX11_value_139 {x : CX} {E : Nat → Value} {Q : Rs → HS → Prop} {X19 X85 : Ct} (EN : EX x E) (G : Gd x cX11_value "ChantRules$Composed" yX11_value 9 (Option.some Jvm.ClassFile.FieldType.int) Q) (hF : x.1.2.2.2.frames = 8 ∧ x.1.2.2.2.locals = 203) (hC : x.2.2.2.2.2 = (fun _ => false)) (hxt : (∀ z ∈ x.2.2.1.2.1.exceptionTable.toList, False)) (h19 : Snd x 19 X19) (h85 : Snd x 85 X85) : Snd x 139 (bX11_value_139 E Q X19 X85) := by
  unfold bX11_value_139
  refine s_bald G.b G.kn dX11_value_139 ?_
  refine s_ifeq (tgt := 155) G.b dX11_value_140 (by decide) (tX11_value_155 EN G hF hC hxt h19 h85) ?_
  refine s_aload G.b dX11_value_143 ?_
  refine s_inst G.b G.ow G.kn G.hts q1287 ct_6y ct_6n dX11_value_145 ?_
  refine s_ifeq (tgt := 155) G.b dX11_value_148 (by decide) (tX11_value_155 EN G hF hC hxt h19 h85) ?_
  refine s_iconst (by decide) G.b dX11_value_151 ?_
  exact s_goto (tgt := 156) G.b dX11_value_152 (by decide) (tX11_value_156 EN G hF hC hxt h19 h85)
set_option maxHeartbeats 4000000 in
theorem tX11_value_126 {x : CX} {E : Nat → Value} {Q : Rs → HS → Prop} {X19 X85 : Ct} (EN : EX x E) (G : Gd x cX11_value "ChantRules$Composed" yX11_value 9 (Option.some Jvm.ClassFile.FieldType.int) Q) (hF : x.1.2.2.2.frames = 8 ∧ x.1.2.2.2.locals = 203) (hC : x.2.2.2.2.2 = (fun _ => false)) (hxt : (∀ z ∈ x.2.2.1.2.1.exceptionTable.toList, False)) (h19 : Snd x 19 X19) (h85 : Snd x 85 X85) : Snd x 126 (bX11_value_126 E Q X19 X85) := by
  unfold bX11_value_126
  refine s_iadd G.b dX11_value_126 ?_
  refine s_istore G.b (by rw [G.nl]; decide) (fun _ _ => by rw [hC]) dX11_value_127 ?_
  refine s_iload G.b dX11_value_129 ?_
  refine s_aload_n rfl G.b dX11_value_131 ?_
  refine s_aload G.b dX11_value_132 ?_
  exact (s_vsel (s_callF (r0 := (RX7, TX7, 4)) (w := ⟨"ChantRules$Arc", "from", "()I"⟩) (by decide) rfl G (mX7_from EN) q1266 (va_Fw.moved (by decide +kernel) G.warm.alike ⟨(EN.nw q712 rfl), (EN.nw q711 rfl), (EN.nw q716 rfl), (EN.nw q714 rfl), (EN.nw q287 rfl)⟩) q713 q715 q99 q717 nmk_70 (rm_of hF (Nat.le_of_ble_eq_true rfl) (Nat.le_of_ble_eq_true rfl)) dX11_value_134 (tX11_value_139 EN G hF hC hxt h19 h85) (sx_out G (fun z hz => (hxt z hz).elim)) ) (s_callF (r0 := (RX8, TX8, 5)) (w := ⟨"ChantRules$Arc", "from", "()I"⟩) (by decide) rfl G (mX8_from EN) q1266 (va_Fw.moved (by decide +kernel) G.warm.alike ⟨(EN.nw q712 rfl), (EN.nw q711 rfl), (EN.nw q721 rfl), (EN.nw q719 rfl), (EN.nw q293 rfl)⟩) q718 q720 q100 q722 nmk_70 (rm_of hF (Nat.le_of_ble_eq_true rfl) (Nat.le_of_ble_eq_true rfl)) dX11_value_134 (tX11_value_139 EN G hF hC hxt h19 h85) (sx_out G (fun z hz => (hxt z hz).elim)) ))
set_option maxHeartbeats 4000000 in
theorem tX11_value_125 {x : CX} {E : Nat → Value} {Q : Rs → HS → Prop} {X19 X85 : Ct} (EN : EX x E) (G : Gd x cX11_value "ChantRules$Composed" yX11_value 9 (Option.some Jvm.ClassFile.FieldType.int) Q) (hF : x.1.2.2.2.frames = 8 ∧ x.1.2.2.2.locals = 203) (hC : x.2.2.2.2.2 = (fun _ => false)) (hxt : (∀ z ∈ x.2.2.1.2.1.exceptionTable.toList, False)) (h19 : Snd x 19 X19) (h85 : Snd x 85 X85) : Snd x 125 (bX11_value_125 E Q X19 X85) := by
  unfold bX11_value_125
  refine s_iconst (by decide) G.b dX11_value_125 ?_
  exact (tX11_value_126 EN G hF hC hxt h19 h85)
set_option maxHeartbeats 4000000 in
theorem tX11_value_117 {x : CX} {E : Nat → Value} {Q : Rs → HS → Prop} {X19 X85 : Ct} (EN : EX x E) (G : Gd x cX11_value "ChantRules$Composed" yX11_value 9 (Option.some Jvm.ClassFile.FieldType.int) Q) (hF : x.1.2.2.2.frames = 8 ∧ x.1.2.2.2.locals = 203) (hC : x.2.2.2.2.2 = (fun _ => false)) (hxt : (∀ z ∈ x.2.2.1.2.1.exceptionTable.toList, False)) (h19 : Snd x 19 X19) (h85 : Snd x 85 X85) : Snd x 117 (bX11_value_117 E Q X19 X85) := by
  unfold bX11_value_117
  refine s_bald G.b G.kn dX11_value_117 ?_
  refine s_ifeq (tgt := 125) G.b dX11_value_118 (by decide) (tX11_value_125 EN G hF hC hxt h19 h85) ?_
  refine s_iconst (by decide) G.b dX11_value_121 ?_
  exact s_goto (tgt := 126) G.b dX11_value_122 (by decide) (tX11_value_126 EN G hF hC hxt h19 h85)
set_option maxHeartbeats 4000000 in
theorem tX11_value_85 {x : CX} {E : Nat → Value} {Q : Rs → HS → Prop} {X19 X85 : Ct} (EN : EX x E) (G : Gd x cX11_value "ChantRules$Composed" yX11_value 9 (Option.some Jvm.ClassFile.FieldType.int) Q) (hF : x.1.2.2.2.frames = 8 ∧ x.1.2.2.2.locals = 203) (hC : x.2.2.2.2.2 = (fun _ => false)) (hxt : (∀ z ∈ x.2.2.1.2.1.exceptionTable.toList, False)) (h19 : Snd x 19 X19) (h85 : Snd x 85 X85) : Snd x 85 (bX11_value_85 E Q X19 X85) := by
  unfold bX11_value_85
  refine s_aload G.b dX11_value_85 ?_
  refine s_callF (r0 := (RJ9, TJ9, 4)) (w := ⟨"java/util/Iterator", "hasNext", "()Z"⟩) (by decide) rfl G (mJ9_hasNext EN) q1255 (va_Fw.moved (by decide +kernel) G.warm.alike ⟨(EN.nw q380 rfl), (EN.nw q379 rfl), (EN.nw q385 rfl), (EN.nw q383 rfl), (EN.nw q381 rfl)⟩) q382 q384 q91 q386 nmk_15 (rm_of hF (Nat.le_of_ble_eq_true rfl) (Nat.le_of_ble_eq_true rfl)) dX11_value_87 ?_ (sx_out G (fun z hz => (hxt z hz).elim))
  refine s_ifeq (tgt := 162) G.b dX11_value_92 (by decide) (tX11_value_162 EN G hF hC hxt h19 h85) ?_
  refine s_aload G.b dX11_value_95 ?_
  refine s_callF (r0 := (RJ9, TJ9, 4)) (w := ⟨"java/util/Iterator", "next", "()Ljava/lang/Object;"⟩) (by decide) rfl G (mJ9_next EN) q1257 (va_Fw.moved (by decide +kernel) G.warm.alike ⟨(EN.nw q390 rfl), (EN.nw q389 rfl), (EN.nw q394 rfl), (EN.nw q392 rfl), (EN.nw q381 rfl)⟩) q391 q393 q91 q395 nmk_16 (rm_of hF (Nat.le_of_ble_eq_true rfl) (Nat.le_of_ble_eq_true rfl)) dX11_value_97 ?_ (sx_out G (fun z hz => (hxt z hz).elim))
  refine s_cast G.b G.ow G.kn G.hts q1258 ct_1 dX11_value_102 ?_
  refine s_astore G.b (by rw [G.nl]; decide) (fun _ _ => by rw [hC]) dX11_value_105 ?_
  refine s_iload G.b dX11_value_107 ?_
  refine s_aload_n rfl G.b dX11_value_109 ?_
  refine s_aload G.b dX11_value_110 ?_
  exact (s_vsel (s_callF (r0 := (RX7, TX7, 4)) (w := ⟨"ChantRules$Arc", "from", "()I"⟩) (by decide) rfl G (mX7_from EN) q1266 (va_Fw.moved (by decide +kernel) G.warm.alike ⟨(EN.nw q712 rfl), (EN.nw q711 rfl), (EN.nw q716 rfl), (EN.nw q714 rfl), (EN.nw q287 rfl)⟩) q713 q715 q99 q717 nmk_70 (rm_of hF (Nat.le_of_ble_eq_true rfl) (Nat.le_of_ble_eq_true rfl)) dX11_value_112 (tX11_value_117 EN G hF hC hxt h19 h85) (sx_out G (fun z hz => (hxt z hz).elim)) ) (s_callF (r0 := (RX8, TX8, 5)) (w := ⟨"ChantRules$Arc", "from", "()I"⟩) (by decide) rfl G (mX8_from EN) q1266 (va_Fw.moved (by decide +kernel) G.warm.alike ⟨(EN.nw q712 rfl), (EN.nw q711 rfl), (EN.nw q721 rfl), (EN.nw q719 rfl), (EN.nw q293 rfl)⟩) q718 q720 q100 q722 nmk_70 (rm_of hF (Nat.le_of_ble_eq_true rfl) (Nat.le_of_ble_eq_true rfl)) dX11_value_112 (tX11_value_117 EN G hF hC hxt h19 h85) (sx_out G (fun z hz => (hxt z hz).elim)) ))
set_option maxHeartbeats 4000000 in
theorem tX11_value_76 {x : CX} {E : Nat → Value} {Q : Rs → HS → Prop} {X19 X85 : Ct} (EN : EX x E) (G : Gd x cX11_value "ChantRules$Composed" yX11_value 9 (Option.some Jvm.ClassFile.FieldType.int) Q) (hF : x.1.2.2.2.frames = 8 ∧ x.1.2.2.2.locals = 203) (hC : x.2.2.2.2.2 = (fun _ => false)) (hxt : (∀ z ∈ x.2.2.1.2.1.exceptionTable.toList, False)) (h19 : Snd x 19 X19) (h85 : Snd x 85 X85) : Snd x 76 (bX11_value_76 E Q X19 X85) := by
  unfold bX11_value_76
  refine s_aload_n rfl G.b dX11_value_76 ?_
  refine s_getf G.b G.ow G.kn (G.hts _ q1290) (fun _ h => h) fa_47 dX11_value_77 ?_
  refine s_callV G (mJ2_iterator EN) q1253 q355 (sel_cons (r := (RJ2, TJ2, 3)) (by decide) rfl q356 (sel_nil)) q82 q357 nmk_18 (rm_of hF (Nat.le_of_ble_eq_true rfl) (Nat.le_of_ble_eq_true rfl)) dX11_value_80 ?_ (sx_out G (fun z hz => (hxt z hz).elim))
  refine s_astore G.b (by rw [G.nl]; decide) (fun _ _ => by rw [hC]) dX11_value_83 ?_
  exact h85
set_option maxHeartbeats 4000000 in
theorem tX11_value_67 {x : CX} {E : Nat → Value} {Q : Rs → HS → Prop} {X19 X85 : Ct} (EN : EX x E) (G : Gd x cX11_value "ChantRules$Composed" yX11_value 9 (Option.some Jvm.ClassFile.FieldType.int) Q) (hF : x.1.2.2.2.frames = 8 ∧ x.1.2.2.2.locals = 203) (hC : x.2.2.2.2.2 = (fun _ => false)) (hxt : (∀ z ∈ x.2.2.1.2.1.exceptionTable.toList, False)) (h19 : Snd x 19 X19) (h85 : Snd x 85 X85) : Snd x 67 (bX11_value_67 E Q X19 X85) := by
  unfold bX11_value_67
  refine s_iadd G.b dX11_value_67 ?_
  refine s_istore G.b (by rw [G.nl]; decide) (fun _ _ => by rw [hC]) dX11_value_68 ?_
  refine s_iinc (by decide) G.b (by rw [G.nl]; decide) (fun _ _ => by rw [hC]) dX11_value_70 ?_
  exact s_goto (tgt := 19) G.b dX11_value_73 (by decide) h19
set_option maxHeartbeats 4000000 in
theorem tX11_value_66 {x : CX} {E : Nat → Value} {Q : Rs → HS → Prop} {X19 X85 : Ct} (EN : EX x E) (G : Gd x cX11_value "ChantRules$Composed" yX11_value 9 (Option.some Jvm.ClassFile.FieldType.int) Q) (hF : x.1.2.2.2.frames = 8 ∧ x.1.2.2.2.locals = 203) (hC : x.2.2.2.2.2 = (fun _ => false)) (hxt : (∀ z ∈ x.2.2.1.2.1.exceptionTable.toList, False)) (h19 : Snd x 19 X19) (h85 : Snd x 85 X85) : Snd x 66 (bX11_value_66 E Q X19 X85) := by
  unfold bX11_value_66
  refine s_iconst (by decide) G.b dX11_value_66 ?_
  exact (tX11_value_67 EN G hF hC hxt h19 h85)
set_option maxHeartbeats 4000000 in
theorem tX11_value_41 {x : CX} {E : Nat → Value} {Q : Rs → HS → Prop} {X19 X85 : Ct} (EN : EX x E) (G : Gd x cX11_value "ChantRules$Composed" yX11_value 9 (Option.some Jvm.ClassFile.FieldType.int) Q) (hF : x.1.2.2.2.frames = 8 ∧ x.1.2.2.2.locals = 203) (hC : x.2.2.2.2.2 = (fun _ => false)) (hxt : (∀ z ∈ x.2.2.1.2.1.exceptionTable.toList, False)) (h19 : Snd x 19 X19) (h85 : Snd x 85 X85) : Snd x 41 (bX11_value_41 E Q X19 X85) := by
  unfold bX11_value_41
  refine s_iadd G.b dX11_value_41 ?_
  refine s_istore_n rfl G.b (by rw [G.nl]; decide) (fun _ _ => by rw [hC]) dX11_value_42 ?_
  refine s_iload G.b dX11_value_43 ?_
  refine s_aload_n rfl G.b dX11_value_45 ?_
  refine s_iload G.b dX11_value_46 ?_
  refine s_bald G.b G.kn dX11_value_48 ?_
  refine s_ifeq (tgt := 66) G.b dX11_value_49 (by decide) (tX11_value_66 EN G hF hC hxt h19 h85) ?_
  refine s_aload_n rfl G.b dX11_value_52 ?_
  refine s_iload G.b dX11_value_53 ?_
  refine s_callV G (mX11_end EN) q1369 q911 (sel_cons (r := (RX11, TX11, 3)) (by decide) rfl q2353 (sel_nil)) q106 q912 nmk_160 (rm_of hF (Nat.le_of_ble_eq_true rfl) (Nat.le_of_ble_eq_true rfl)) dX11_value_55 ?_ (sx_out G (fun z hz => (hxt z hz).elim))
  refine s_iconst (by decide) G.b dX11_value_58 ?_
  refine s_icmpeq (tgt := 66) G.b dX11_value_59 (by decide) (tX11_value_66 EN G hF hC hxt h19 h85) ?_
  refine s_iconst (by decide) G.b dX11_value_62 ?_
  exact s_goto (tgt := 67) G.b dX11_value_63 (by decide) (tX11_value_67 EN G hF hC hxt h19 h85)
set_option maxHeartbeats 4000000 in
theorem tX11_value_40 {x : CX} {E : Nat → Value} {Q : Rs → HS → Prop} {X19 X85 : Ct} (EN : EX x E) (G : Gd x cX11_value "ChantRules$Composed" yX11_value 9 (Option.some Jvm.ClassFile.FieldType.int) Q) (hF : x.1.2.2.2.frames = 8 ∧ x.1.2.2.2.locals = 203) (hC : x.2.2.2.2.2 = (fun _ => false)) (hxt : (∀ z ∈ x.2.2.1.2.1.exceptionTable.toList, False)) (h19 : Snd x 19 X19) (h85 : Snd x 85 X85) : Snd x 40 (bX11_value_40 E Q X19 X85) := by
  unfold bX11_value_40
  refine s_iconst (by decide) G.b dX11_value_40 ?_
  exact (tX11_value_41 EN G hF hC hxt h19 h85)
set_option maxHeartbeats 4000000 in
theorem tX11_value_19 {x : CX} {E : Nat → Value} {Q : Rs → HS → Prop} {X19 X85 : Ct} (EN : EX x E) (G : Gd x cX11_value "ChantRules$Composed" yX11_value 9 (Option.some Jvm.ClassFile.FieldType.int) Q) (hF : x.1.2.2.2.frames = 8 ∧ x.1.2.2.2.locals = 203) (hC : x.2.2.2.2.2 = (fun _ => false)) (hxt : (∀ z ∈ x.2.2.1.2.1.exceptionTable.toList, False)) (h19 : Snd x 19 X19) (h85 : Snd x 85 X85) : Snd x 19 (bX11_value_19 E Q X19 X85) := by
  unfold bX11_value_19
  refine s_iload G.b dX11_value_19 ?_
  refine s_aload_n rfl G.b dX11_value_21 ?_
  refine s_callV G (mX11_states EN) q1368 q870 (sel_cons (r := (RX11, TX11, 3)) (by decide) rfl q2352 (sel_nil)) q106 q871 nmk_161 (rm_of hF (Nat.le_of_ble_eq_true rfl) (Nat.le_of_ble_eq_true rfl)) dX11_value_22 ?_ (sx_out G (fun z hz => (hxt z hz).elim))
  refine s_icmpge (tgt := 76) G.b dX11_value_25 (by decide) (tX11_value_76 EN G hF hC hxt h19 h85) ?_
  refine s_iload_n rfl G.b dX11_value_28 ?_
  refine s_aload_n rfl G.b dX11_value_29 ?_
  refine s_iload G.b dX11_value_30 ?_
  refine s_bald G.b G.kn dX11_value_32 ?_
  refine s_ifeq (tgt := 40) G.b dX11_value_33 (by decide) (tX11_value_40 EN G hF hC hxt h19 h85) ?_
  refine s_iconst (by decide) G.b dX11_value_36 ?_
  exact s_goto (tgt := 41) G.b dX11_value_37 (by decide) (tX11_value_41 EN G hF hC hxt h19 h85)
set_option maxHeartbeats 4000000 in
theorem tX11_value_0 {x : CX} {E : Nat → Value} {Q : Rs → HS → Prop} {X19 X85 : Ct} (EN : EX x E) (G : Gd x cX11_value "ChantRules$Composed" yX11_value 9 (Option.some Jvm.ClassFile.FieldType.int) Q) (hF : x.1.2.2.2.frames = 8 ∧ x.1.2.2.2.locals = 203) (hC : x.2.2.2.2.2 = (fun _ => false)) (hxt : (∀ z ∈ x.2.2.1.2.1.exceptionTable.toList, False)) (h19 : Snd x 19 X19) (h85 : Snd x 85 X85) : Snd x 0 (bX11_value_0 E Q X19 X85) := by
  unfold bX11_value_0
  refine s_aload_n rfl G.b dX11_value_0 ?_
  refine s_callVU (w := ⟨"ChantRules$Composed", "reached", "()[Z"⟩) (owner := "ChantRules$Machine") G (mX2_reached EN) q1365 q1366 (va_Decl.of (G.hts _ q858) (G.hts _ q859)) (by decide +kernel) q858 (sel_cons (r := (RX11, TX11, 3)) (by decide) rfl q1367 (sel_nil)) q78 q859 nmk_162 (rm_of hF (Nat.le_of_ble_eq_true rfl) (Nat.le_of_ble_eq_true rfl)) dX11_value_1 ?_ (sx_out G (fun z hz => (hxt z hz).elim))
  refine s_astore_n rfl G.b (by rw [G.nl]; decide) (fun _ _ => by rw [hC]) dX11_value_4 ?_
  refine s_iconst (by decide) G.b dX11_value_5 ?_
  refine s_istore_n rfl G.b (by rw [G.nl]; decide) (fun _ _ => by rw [hC]) dX11_value_6 ?_
  refine s_iconst (by decide) G.b dX11_value_7 ?_
  refine s_istore G.b (by rw [G.nl]; decide) (fun _ _ => by rw [hC]) dX11_value_8 ?_
  refine s_iconst (by decide) G.b dX11_value_10 ?_
  refine s_istore G.b (by rw [G.nl]; decide) (fun _ _ => by rw [hC]) dX11_value_11 ?_
  refine s_iconst (by decide) G.b dX11_value_13 ?_
  refine s_istore G.b (by rw [G.nl]; decide) (fun _ _ => by rw [hC]) dX11_value_14 ?_
  refine s_iconst (by decide) G.b dX11_value_16 ?_
  refine s_istore G.b (by rw [G.nl]; decide) (fun _ _ => by rw [hC]) dX11_value_17 ?_
  exact h19
set_option maxHeartbeats 4000000 in
theorem mX11_value {l : Launch} {D : DE} {s0 : State} {E : Nat → Value} (EN : EV l D s0 E) : rMet l D s0 yX11_value (ws_ yX11_value cX11_value 9 (Option.some Jvm.ClassFile.FieldType.int)) 8 203 (wX11_value E) := by
  refine body_met (fun _ => false) EN.kn (fun w h => h) (by decide +kernel) rfl (fun av h Q hw => ?_) ?_
  · unfold wX11_value at hw
    split at hw
    · exact Nat.le_of_ble_eq_true rfl
    · exact hw.elim
  · intro p e s m below meth c av h Q hxt G hw
    unfold wX11_value at hw
    split at hw
    · exact tX11_value_0 EN G ⟨rfl, rfl⟩ rfl hxt (fun _ _ _ h => h) (fun _ _ _ h => h) _ _ _ (hw (AW _ 19) (AW _ 85) (tX11_value_19 EN G ⟨rfl, rfl⟩ rfl hxt (fun _ _ _ h => h) (fun _ _ _ h => h)) (tX11_value_85 EN G ⟨rfl, rfl⟩ rfl hxt (fun _ _ _ h => h) (fun _ _ _ h => h)))
    · exact hw.elim
/-! ChantRules.composed(I)I (X0_composed) -/
theorem nmk_163 : nm_ok yX11_value 1 := ⟨by decide +kernel, by decide +kernel, by decide +kernel⟩
def bX0_composed_0 (E : Nat → Value) (Q : Rs → HS → Prop) : Ct :=
  o_aload 0 <|
  o_getf [0] 1 <|
  o_aload 0 <|
  o_getf [0] 0 <|
  o_callV [1] 2 (wX1_composed E) (x_out Q) <|
  o_iload 1 <|
  o_callV [4] 2 (wX11_value E) (x_out Q) <|
  o_ireturn .int Q
def wX0_composed (E : Nat → Value) : Wp := fun av h Q => match av with
  | [a0, a1] => bX0_composed_0 E Q [a0, a1] [] h
  | _ => False
set_option maxHeartbeats 4000000 in
theorem tX0_composed_0 {x : CX} {E : Nat → Value} {Q : Rs → HS → Prop} (EN : EX x E) (G : Gd x cX0_composed "ChantRules" yX0_composed 2 (Option.some Jvm.ClassFile.FieldType.int) Q) (hF : x.1.2.2.2.frames = 17 ∧ x.1.2.2.2.locals = 403) (hC : x.2.2.2.2.2 = (fun _ => false)) (hxt : (∀ z ∈ x.2.2.1.2.1.exceptionTable.toList, False)) : Snd x 0 (bX0_composed_0 E Q) := by
  unfold bX0_composed_0
  refine s_aload_n rfl G.b dX0_composed_0 ?_
  refine s_getf G.b G.ow G.kn (G.hts _ q300) (fun _ h => h) fa_11 dX0_composed_1 ?_
  refine s_aload_n rfl G.b dX0_composed_4 ?_
  refine s_getf G.b G.ow G.kn (G.hts _ q299) (fun _ h => h) fa_10 dX0_composed_5 ?_
  refine s_callV G (mX1_composed EN) q1241 q1242 (sel_cons (r := (RX1, TX1, 4)) (by decide) rfl q1243 (sel_nil)) q77 q1244 nmk_119 (rm_of hF (Nat.le_of_ble_eq_true rfl) (Nat.le_of_ble_eq_true rfl)) dX0_composed_8 ?_ (sx_out G (fun z hz => (hxt z hz).elim))
  refine s_iload_n rfl G.b dX0_composed_11 ?_
  refine s_callV G (mX11_value EN) q1361 q1362 (sel_cons (r := (RX11, TX11, 3)) (by decide) rfl q1363 (sel_nil)) q106 q1364 nmk_163 (rm_of hF (Nat.le_of_ble_eq_true rfl) (Nat.le_of_ble_eq_true rfl)) dX0_composed_12 ?_ (sx_out G (fun z hz => (hxt z hz).elim))
  exact s_ireturn G dX0_composed_15
set_option maxHeartbeats 4000000 in
theorem mX0_composed {l : Launch} {D : DE} {s0 : State} {E : Nat → Value} (EN : EV l D s0 E) : rMet l D s0 yX0_composed (ws_ yX0_composed cX0_composed 2 (Option.some Jvm.ClassFile.FieldType.int)) 17 403 (wX0_composed E) := by
  refine body_met (fun _ => false) EN.kn (fun w h => h) (by decide +kernel) rfl (fun av h Q hw => ?_) ?_
  · unfold wX0_composed at hw
    split at hw
    · exact Nat.le_of_ble_eq_true rfl
    · exact hw.elim
  · intro p e s m below meth c av h Q hxt G hw
    unfold wX0_composed at hw
    split at hw
    · exact tX0_composed_0 EN G ⟨rfl, rfl⟩ rfl hxt _ _ _ hw
    · exact hw.elim
/-! ChantRules.drop(II)I (X0_drop) -/
def bX0_drop_15 (E : Nat → Value) (Q : Rs → HS → Prop) : Ct :=
  o_aload 0 <|
  o_getf [0] 1 <|
  o_callV [1] 1 (wX1_copy E) (x_out Q) <|
  o_astore 3 <|
  o_aload 0 <|
  o_aload 3 <|
  o_aload 0 <|
  o_getf [0] 1 <|
  o_iload 1 <|
  o_iload 2 <|
  o_callV [1] 3 (wX1_drops E) (x_out Q) <|
  o_callV [0] 3 (wX0_changed E) (x_out Q) <|
  o_ireturn .int Q
def bX0_drop_0 (E : Nat → Value) (Q : Rs → HS → Prop) : Ct :=
  o_aload 0 <|
  o_getf [0] 1 <|
  o_iload 1 <|
  o_iload 2 <|
  o_callV [1] 3 (wX1_isArc E) (x_out Q) <|
  o_ifne (bX0_drop_15 E Q) <|
  o_push (.int (-11)) <|
  o_ireturn .int Q
def wX0_drop (E : Nat → Value) : Wp := fun av h Q => match av with
  | [a0, a1, a2] => bX0_drop_0 E Q [a0, a1, a2, jk] [] h
  | _ => False
set_option maxHeartbeats 4000000 in
theorem tX0_drop_15 {x : CX} {E : Nat → Value} {Q : Rs → HS → Prop} (EN : EX x E) (G : Gd x cX0_drop "ChantRules" yX0_drop 4 (Option.some Jvm.ClassFile.FieldType.int) Q) (hF : x.1.2.2.2.frames = 16 ∧ x.1.2.2.2.locals = 376) (hC : x.2.2.2.2.2 = (fun _ => false)) (hxt : (∀ z ∈ x.2.2.1.2.1.exceptionTable.toList, False)) : Snd x 15 (bX0_drop_15 E Q) := by
  unfold bX0_drop_15
  refine s_aload_n rfl G.b dX0_drop_15 ?_
  refine s_getf G.b G.ow G.kn (G.hts _ q300) (fun _ h => h) fa_11 dX0_drop_16 ?_
  refine s_callV G (mX1_copy EN) q342 q343 (sel_cons (r := (RX1, TX1, 4)) (by decide) rfl q344 (sel_nil)) q77 q345 nmk_82 (rm_of hF (Nat.le_of_ble_eq_true rfl) (Nat.le_of_ble_eq_true rfl)) dX0_drop_19 ?_ (sx_out G (fun z hz => (hxt z hz).elim))
  refine s_astore_n rfl G.b (by rw [G.nl]; decide) (fun _ _ => by rw [hC]) dX0_drop_22 ?_
  refine s_aload_n rfl G.b dX0_drop_23 ?_
  refine s_aload_n rfl G.b dX0_drop_24 ?_
  refine s_aload_n rfl G.b dX0_drop_25 ?_
  refine s_getf G.b G.ow G.kn (G.hts _ q300) (fun _ h => h) fa_11 dX0_drop_26 ?_
  refine s_iload_n rfl G.b dX0_drop_29 ?_
  refine s_iload_n rfl G.b dX0_drop_30 ?_
  refine s_callV G (mX1_drops EN) q792 q793 (sel_cons (r := (RX1, TX1, 4)) (by decide) rfl q794 (sel_nil)) q77 q795 nmk_143 (rm_of hF (Nat.le_of_ble_eq_true rfl) (Nat.le_of_ble_eq_true rfl)) dX0_drop_31 ?_ (sx_out G (fun z hz => (hxt z hz).elim))
  refine s_callV G (mX0_changed EN) q547 q549 (sel_cons (r := (RX0, TX0, 10)) (by decide) rfl qs4 (sel_nil)) q76 q550 nmk_85 (rm_of hF (Nat.le_of_ble_eq_true rfl) (Nat.le_of_ble_eq_true rfl)) dX0_drop_34 ?_ (sx_out G (fun z hz => (hxt z hz).elim))
  exact s_ireturn G dX0_drop_37
set_option maxHeartbeats 4000000 in
theorem tX0_drop_0 {x : CX} {E : Nat → Value} {Q : Rs → HS → Prop} (EN : EX x E) (G : Gd x cX0_drop "ChantRules" yX0_drop 4 (Option.some Jvm.ClassFile.FieldType.int) Q) (hF : x.1.2.2.2.frames = 16 ∧ x.1.2.2.2.locals = 376) (hC : x.2.2.2.2.2 = (fun _ => false)) (hxt : (∀ z ∈ x.2.2.1.2.1.exceptionTable.toList, False)) : Snd x 0 (bX0_drop_0 E Q) := by
  unfold bX0_drop_0
  refine s_aload_n rfl G.b dX0_drop_0 ?_
  refine s_getf G.b G.ow G.kn (G.hts _ q300) (fun _ h => h) fa_11 dX0_drop_1 ?_
  refine s_iload_n rfl G.b dX0_drop_4 ?_
  refine s_iload_n rfl G.b dX0_drop_5 ?_
  refine s_callV G (mX1_isArc EN) q755 q756 (sel_cons (r := (RX1, TX1, 4)) (by decide) rfl q757 (sel_nil)) q77 q758 nmk_90 (rm_of hF (Nat.le_of_ble_eq_true rfl) (Nat.le_of_ble_eq_true rfl)) dX0_drop_6 ?_ (sx_out G (fun z hz => (hxt z hz).elim))
  refine s_ifne (tgt := 15) G.b dX0_drop_9 (by decide) (tX0_drop_15 EN G hF hC hxt) ?_
  refine s_bipush (by decide) G.b dX0_drop_12 ?_
  exact s_ireturn G dX0_drop_14
set_option maxHeartbeats 4000000 in
theorem mX0_drop {l : Launch} {D : DE} {s0 : State} {E : Nat → Value} (EN : EV l D s0 E) : rMet l D s0 yX0_drop (ws_ yX0_drop cX0_drop 4 (Option.some Jvm.ClassFile.FieldType.int)) 16 376 (wX0_drop E) := by
  refine body_met (fun _ => false) EN.kn (fun w h => h) (by decide +kernel) rfl (fun av h Q hw => ?_) ?_
  · unfold wX0_drop at hw
    split at hw
    · exact Nat.le_of_ble_eq_true rfl
    · exact hw.elim
  · intro p e s m below meth c av h Q hxt G hw
    unfold wX0_drop at hw
    split at hw
    · exact tX0_drop_0 EN G ⟨rfl, rfl⟩ rfl hxt _ _ _ hw
    · exact hw.elim
/-! ChantRules.end(III)I (X0_end) -/
def bX0_end_60 (E : Nat → Value) (Q : Rs → HS → Prop) : Ct :=
  o_astore 5 <|
  o_aload 0 <|
  o_aload 5 <|
  o_callV [0] 2 (wX0_refused E) (x_out Q) <|
  o_ireturn .int Q
def bX0_end_30 (E : Nat → Value) (Q : Rs → HS → Prop) : Ct :=
  o_aload 0 <|
  o_getf [0] 1 <|
  o_callV [1] 1 (wX1_copy E) (x_out Q) <|
  o_astore 4 <|
  o_aload 0 <|
  o_aload 4 <|
  o_aload 0 <|
  o_getf [0] 1 <|
  o_getf [1] 0 <|
  o_iload 1 <|
  o_ald [103, 104, 105, 106, 107] <|
  o_iload 2 <|
  o_iload 3 <|
  o_callV [2] 3 (wX3_ends E) (x_catch [9] (bX0_end_60 E Q) x_no) <|
  o_callV [0] 3 (wX0_changed E) (x_catch [9] (bX0_end_60 E Q) x_no) <|
  o_ireturn .int Q
def bX0_end_15 (E : Nat → Value) (Q : Rs → HS → Prop) : Ct :=
  o_iload 3 <|
  o_push (.int (-1)) <|
  o_icmpeq (bX0_end_30 E Q) <|
  o_iload 3 <|
  o_call 1 (wX0_isWeight E) (x_out Q) <|
  o_ifne (bX0_end_30 E Q) <|
  o_push (.int (-12)) <|
  o_ireturn .int Q
def bX0_end_0 (E : Nat → Value) (Q : Rs → HS → Prop) : Ct :=
  o_aload 0 <|
  o_getf [0] 1 <|
  o_iload 1 <|
  o_iload 2 <|
  o_callV [1] 3 (wX1_isState E) (x_out Q) <|
  o_ifne (bX0_end_15 E Q) <|
  o_push (.int (-11)) <|
  o_ireturn .int Q
def wX0_end (E : Nat → Value) : Wp := fun av h Q => match av with
  | [a0, a1, a2, a3] => bX0_end_0 E Q [a0, a1, a2, a3, jk, jk] [] h
  | _ => False
set_option maxHeartbeats 4000000 in
theorem tX0_end_60 {x : CX} {E : Nat → Value} {Q : Rs → HS → Prop} (EN : EX x E) (G : Gd x cX0_end "ChantRules" yX0_end 6 (Option.some Jvm.ClassFile.FieldType.int) Q) (hF : x.1.2.2.2.frames = 16 ∧ x.1.2.2.2.locals = 376) (hC : x.2.2.2.2.2 = (fun _ => false)) (hxt : (x.2.2.1.2.1.exceptionTable.toList = tableOf [(39, 59, 60, 60)])) : Snd x 60 (bX0_end_60 E Q) := by
  unfold bX0_end_60
  refine s_astore G.b (by rw [G.nl]; decide) (fun _ _ => by rw [hC]) dX0_end_60 ?_
  refine s_aload_n rfl G.b dX0_end_62 ?_
  refine s_aload G.b dX0_end_63 ?_
  refine s_callV G (mX0_refused EN) q588 q590 (sel_cons (r := (RX0, TX0, 10)) (by decide) rfl qs7 (sel_nil)) q76 q591 nmk_81 (rm_of hF (Nat.le_of_ble_eq_true rfl) (Nat.le_of_ble_eq_true rfl)) dX0_end_65 ?_ (sx_out G (by rw [hxt]; decide +kernel))
  exact s_ireturn G dX0_end_68
set_option maxHeartbeats 4000000 in
theorem tX0_end_30 {x : CX} {E : Nat → Value} {Q : Rs → HS → Prop} (EN : EX x E) (G : Gd x cX0_end "ChantRules" yX0_end 6 (Option.some Jvm.ClassFile.FieldType.int) Q) (hF : x.1.2.2.2.frames = 16 ∧ x.1.2.2.2.locals = 376) (hC : x.2.2.2.2.2 = (fun _ => false)) (hxt : (x.2.2.1.2.1.exceptionTable.toList = tableOf [(39, 59, 60, 60)])) : Snd x 30 (bX0_end_30 E Q) := by
  unfold bX0_end_30
  refine s_aload_n rfl G.b dX0_end_30 ?_
  refine s_getf G.b G.ow G.kn (G.hts _ q300) (fun _ h => h) fa_11 dX0_end_31 ?_
  refine s_callV G (mX1_copy EN) q342 q343 (sel_cons (r := (RX1, TX1, 4)) (by decide) rfl q344 (sel_nil)) q77 q345 nmk_82 (rm_of hF (Nat.le_of_ble_eq_true rfl) (Nat.le_of_ble_eq_true rfl)) dX0_end_34 ?_ (sx_out G (by rw [hxt]; decide +kernel))
  refine s_astore G.b (by rw [G.nl]; decide) (fun _ _ => by rw [hC]) dX0_end_37 ?_
  refine s_aload_n rfl G.b dX0_end_39 ?_
  refine s_aload G.b dX0_end_40 ?_
  refine s_aload_n rfl G.b dX0_end_42 ?_
  refine s_getf G.b G.ow G.kn (G.hts _ q300) (fun _ h => h) fa_11 dX0_end_43 ?_
  refine s_getfN G.b G.ow G.kn (va_Nw.use rfl (va_Nw.warmF G.warm (EN.nw q194 rfl))) (fun _ h => h) fa_5 dX0_end_46 ?_
  refine s_iload_n rfl G.b dX0_end_49 ?_
  refine s_aald G.b G.kn dX0_end_50 ?_
  refine s_iload_n rfl G.b dX0_end_51 ?_
  refine s_iload_n rfl G.b dX0_end_52 ?_
  refine s_callV G (mX3_ends EN) q615 q616 (sel_cons (r := (RX3, TX3, 3)) (by decide) rfl q617 (sel_nil)) q79 q618 nmk_146 (rm_of hF (Nat.le_of_ble_eq_true rfl) (Nat.le_of_ble_eq_true rfl)) dX0_end_53 ?_ (sx_catch G [] (⟨39, 59, 60, 60⟩ : ExceptionTableEntry) [] (by rw [hxt]; rfl) (fun w hw => nomatch hw) (by decide +kernel) (by decide) q335 ct_5 (tX0_end_60 EN G hF hC hxt) sx_no)
  refine s_callV G (mX0_changed EN) q547 q549 (sel_cons (r := (RX0, TX0, 10)) (by decide) rfl qs4 (sel_nil)) q76 q550 nmk_85 (rm_of hF (Nat.le_of_ble_eq_true rfl) (Nat.le_of_ble_eq_true rfl)) dX0_end_56 ?_ (sx_catch G [] (⟨39, 59, 60, 60⟩ : ExceptionTableEntry) [] (by rw [hxt]; rfl) (fun w hw => nomatch hw) (by decide +kernel) (by decide) q335 ct_5 (tX0_end_60 EN G hF hC hxt) sx_no)
  exact s_ireturn G dX0_end_59
set_option maxHeartbeats 4000000 in
theorem tX0_end_15 {x : CX} {E : Nat → Value} {Q : Rs → HS → Prop} (EN : EX x E) (G : Gd x cX0_end "ChantRules" yX0_end 6 (Option.some Jvm.ClassFile.FieldType.int) Q) (hF : x.1.2.2.2.frames = 16 ∧ x.1.2.2.2.locals = 376) (hC : x.2.2.2.2.2 = (fun _ => false)) (hxt : (x.2.2.1.2.1.exceptionTable.toList = tableOf [(39, 59, 60, 60)])) : Snd x 15 (bX0_end_15 E Q) := by
  unfold bX0_end_15
  refine s_iload_n rfl G.b dX0_end_15 ?_
  refine s_iconst (by decide) G.b dX0_end_16 ?_
  refine s_icmpeq (tgt := 30) G.b dX0_end_17 (by decide) (tX0_end_30 EN G hF hC hxt) ?_
  refine s_iload_n rfl G.b dX0_end_20 ?_
  refine s_callS G (mX0_isWeight EN) q612 q613 q76 q614 nmk_87 (rm_of hF (Nat.le_of_ble_eq_true rfl) (Nat.le_of_ble_eq_true rfl)) dX0_end_21 ?_ (sx_out G (by rw [hxt]; decide +kernel))
  refine s_ifne (tgt := 30) G.b dX0_end_24 (by decide) (tX0_end_30 EN G hF hC hxt) ?_
  refine s_bipush (by decide) G.b dX0_end_27 ?_
  exact s_ireturn G dX0_end_29
set_option maxHeartbeats 4000000 in
theorem tX0_end_0 {x : CX} {E : Nat → Value} {Q : Rs → HS → Prop} (EN : EX x E) (G : Gd x cX0_end "ChantRules" yX0_end 6 (Option.some Jvm.ClassFile.FieldType.int) Q) (hF : x.1.2.2.2.frames = 16 ∧ x.1.2.2.2.locals = 376) (hC : x.2.2.2.2.2 = (fun _ => false)) (hxt : (x.2.2.1.2.1.exceptionTable.toList = tableOf [(39, 59, 60, 60)])) : Snd x 0 (bX0_end_0 E Q) := by
  unfold bX0_end_0
  refine s_aload_n rfl G.b dX0_end_0 ?_
  refine s_getf G.b G.ow G.kn (G.hts _ q300) (fun _ h => h) fa_11 dX0_end_1 ?_
  refine s_iload_n rfl G.b dX0_end_4 ?_
  refine s_iload_n rfl G.b dX0_end_5 ?_
  refine s_callV G (mX1_isState EN) q602 q603 (sel_cons (r := (RX1, TX1, 4)) (by decide) rfl q604 (sel_nil)) q77 q605 nmk_88 (rm_of hF (Nat.le_of_ble_eq_true rfl) (Nat.le_of_ble_eq_true rfl)) dX0_end_6 ?_ (sx_out G (by rw [hxt]; decide +kernel))
  refine s_ifne (tgt := 15) G.b dX0_end_9 (by decide) (tX0_end_15 EN G hF hC hxt) ?_
  refine s_bipush (by decide) G.b dX0_end_12 ?_
  exact s_ireturn G dX0_end_14
set_option maxHeartbeats 4000000 in
theorem mX0_end {l : Launch} {D : DE} {s0 : State} {E : Nat → Value} (EN : EV l D s0 E) : rMet l D s0 yX0_end (wsW_ yX0_end cX0_end 6 (Option.some Jvm.ClassFile.FieldType.int) [(39, 59, 60, 60)]) 16 376 (wX0_end E) := by
  refine body_metW (fun _ => false) EN.kn (fun w h => h) (by decide +kernel) rfl (fun av h Q hw => ?_) ?_
  · unfold wX0_end at hw
    split at hw
    · exact Nat.le_of_ble_eq_true rfl
    · exact hw.elim
  · intro p e s m below meth c av h Q hxt G hw
    unfold wX0_end at hw
    split at hw
    · exact tX0_end_0 EN G ⟨rfl, rfl⟩ rfl hxt _ _ _ hw
    · exact hw.elim
/-! ChantRules.sound(I)LChantRules$Sound; (X0_sound) -/
def bX0_sound_59 (E : Nat → Value) (Q : Rs → HS → Prop) : Ct :=
  o_areturn Q
def bX0_sound_56 (E : Nat → Value) (Q : Rs → HS → Prop) : Ct :=
  o_push (E 5) <|
  (bX0_sound_59 E Q)
def bX0_sound_50 (E : Nat → Value) (Q : Rs → HS → Prop) : Ct :=
  o_push (E 4) <|
  (bX0_sound_59 E Q)
def bX0_sound_44 (E : Nat → Value) (Q : Rs → HS → Prop) : Ct :=
  o_push (E 3) <|
  (bX0_sound_59 E Q)
def bX0_sound_38 (E : Nat → Value) (Q : Rs → HS → Prop) : Ct :=
  o_push (E 2) <|
  (bX0_sound_59 E Q)
def bX0_sound_32 (E : Nat → Value) (Q : Rs → HS → Prop) : Ct :=
  o_push (E 1) <|
  (bX0_sound_59 E Q)
def bX0_sound_0 (E : Nat → Value) (Q : Rs → HS → Prop) : Ct :=
  o_iload 0 <|
  o_sw [(0, (bX0_sound_32 E Q)), (1, (bX0_sound_38 E Q)), (2, (bX0_sound_44 E Q)), (3, (bX0_sound_50 E Q))] (bX0_sound_56 E Q)
def wX0_sound (E : Nat → Value) : Wp := fun av h Q => match av with
  | [a0] => bX0_sound_0 E Q [a0] [] h
  | _ => False
set_option maxHeartbeats 4000000 in
theorem tX0_sound_59 {x : CX} {E : Nat → Value} {Q : Rs → HS → Prop} (EN : EX x E) (G : Gd x cX0_sound "ChantRules" yX0_sound 1 (Option.some (Jvm.ClassFile.FieldType.object "ChantRules$Sound")) Q) (hF : x.1.2.2.2.frames = 2 ∧ x.1.2.2.2.locals = 64) (hC : x.2.2.2.2.2 = (fun _ => false)) (hxt : (∀ z ∈ x.2.2.1.2.1.exceptionTable.toList, False)) : Snd x 59 (bX0_sound_59 E Q) := by
  unfold bX0_sound_59
  exact s_areturn (Or.inl ⟨_, rfl⟩) G dX0_sound_59
set_option maxHeartbeats 4000000 in
theorem tX0_sound_56 {x : CX} {E : Nat → Value} {Q : Rs → HS → Prop} (EN : EX x E) (G : Gd x cX0_sound "ChantRules" yX0_sound 1 (Option.some (Jvm.ClassFile.FieldType.object "ChantRules$Sound")) Q) (hF : x.1.2.2.2.frames = 2 ∧ x.1.2.2.2.locals = 64) (hC : x.2.2.2.2.2 = (fun _ => false)) (hxt : (∀ z ∈ x.2.2.1.2.1.exceptionTable.toList, False)) : Snd x 56 (bX0_sound_56 E Q) := by
  unfold bX0_sound_56
  refine s_getst EN G q1117 (i := 5) rfl dX0_sound_56 ?_
  exact (tX0_sound_59 EN G hF hC hxt)
set_option maxHeartbeats 4000000 in
theorem tX0_sound_50 {x : CX} {E : Nat → Value} {Q : Rs → HS → Prop} (EN : EX x E) (G : Gd x cX0_sound "ChantRules" yX0_sound 1 (Option.some (Jvm.ClassFile.FieldType.object "ChantRules$Sound")) Q) (hF : x.1.2.2.2.frames = 2 ∧ x.1.2.2.2.locals = 64) (hC : x.2.2.2.2.2 = (fun _ => false)) (hxt : (∀ z ∈ x.2.2.1.2.1.exceptionTable.toList, False)) : Snd x 50 (bX0_sound_50 E Q) := by
  unfold bX0_sound_50
  refine s_getst EN G q1115 (i := 4) rfl dX0_sound_50 ?_
  exact s_goto (tgt := 59) G.b dX0_sound_53 (by decide) (tX0_sound_59 EN G hF hC hxt)
set_option maxHeartbeats 4000000 in
theorem tX0_sound_44 {x : CX} {E : Nat → Value} {Q : Rs → HS → Prop} (EN : EX x E) (G : Gd x cX0_sound "ChantRules" yX0_sound 1 (Option.some (Jvm.ClassFile.FieldType.object "ChantRules$Sound")) Q) (hF : x.1.2.2.2.frames = 2 ∧ x.1.2.2.2.locals = 64) (hC : x.2.2.2.2.2 = (fun _ => false)) (hxt : (∀ z ∈ x.2.2.1.2.1.exceptionTable.toList, False)) : Snd x 44 (bX0_sound_44 E Q) := by
  unfold bX0_sound_44
  refine s_getst EN G q1113 (i := 3) rfl dX0_sound_44 ?_
  exact s_goto (tgt := 59) G.b dX0_sound_47 (by decide) (tX0_sound_59 EN G hF hC hxt)
set_option maxHeartbeats 4000000 in
theorem tX0_sound_38 {x : CX} {E : Nat → Value} {Q : Rs → HS → Prop} (EN : EX x E) (G : Gd x cX0_sound "ChantRules" yX0_sound 1 (Option.some (Jvm.ClassFile.FieldType.object "ChantRules$Sound")) Q) (hF : x.1.2.2.2.frames = 2 ∧ x.1.2.2.2.locals = 64) (hC : x.2.2.2.2.2 = (fun _ => false)) (hxt : (∀ z ∈ x.2.2.1.2.1.exceptionTable.toList, False)) : Snd x 38 (bX0_sound_38 E Q) := by
  unfold bX0_sound_38
  refine s_getst EN G q1111 (i := 2) rfl dX0_sound_38 ?_
  exact s_goto (tgt := 59) G.b dX0_sound_41 (by decide) (tX0_sound_59 EN G hF hC hxt)
set_option maxHeartbeats 4000000 in
theorem tX0_sound_32 {x : CX} {E : Nat → Value} {Q : Rs → HS → Prop} (EN : EX x E) (G : Gd x cX0_sound "ChantRules" yX0_sound 1 (Option.some (Jvm.ClassFile.FieldType.object "ChantRules$Sound")) Q) (hF : x.1.2.2.2.frames = 2 ∧ x.1.2.2.2.locals = 64) (hC : x.2.2.2.2.2 = (fun _ => false)) (hxt : (∀ z ∈ x.2.2.1.2.1.exceptionTable.toList, False)) : Snd x 32 (bX0_sound_32 E Q) := by
  unfold bX0_sound_32
  refine s_getst EN G q1109 (i := 1) rfl dX0_sound_32 ?_
  exact s_goto (tgt := 59) G.b dX0_sound_35 (by decide) (tX0_sound_59 EN G hF hC hxt)
set_option maxHeartbeats 4000000 in
theorem tX0_sound_0 {x : CX} {E : Nat → Value} {Q : Rs → HS → Prop} (EN : EX x E) (G : Gd x cX0_sound "ChantRules" yX0_sound 1 (Option.some (Jvm.ClassFile.FieldType.object "ChantRules$Sound")) Q) (hF : x.1.2.2.2.frames = 2 ∧ x.1.2.2.2.locals = 64) (hC : x.2.2.2.2.2 = (fun _ => false)) (hxt : (∀ z ∈ x.2.2.1.2.1.exceptionTable.toList, False)) : Snd x 0 (bX0_sound_0 E Q) := by
  unfold bX0_sound_0
  refine s_iload_n rfl G.b dX0_sound_0 ?_
  exact s_tsw (tD := 56) G.b dX0_sound_1 (by decide) (tX0_sound_56 EN G hF hC hxt) rfl (tsw_0 (tsw_cons (31) 32 (by decide) rfl (by decide) (tX0_sound_32 EN G hF hC hxt) (tsw_cons (37) 38 (by decide) rfl (by decide) (tX0_sound_38 EN G hF hC hxt) (tsw_cons (43) 44 (by decide) rfl (by decide) (tX0_sound_44 EN G hF hC hxt) (tsw_cons (49) 50 (by decide) rfl (by decide) (tX0_sound_50 EN G hF hC hxt) (tsw_nil))))))
set_option maxHeartbeats 4000000 in
theorem mX0_sound {l : Launch} {D : DE} {s0 : State} {E : Nat → Value} (EN : EV l D s0 E) : rMet l D s0 yX0_sound (ws_ yX0_sound cX0_sound 1 (Option.some (Jvm.ClassFile.FieldType.object "ChantRules$Sound"))) 2 64 (wX0_sound E) := by
  refine body_met (fun _ => false) EN.kn (fun w h => h) (by decide +kernel) rfl (fun av h Q hw => ?_) ?_
  · unfold wX0_sound at hw
    split at hw
    · exact Nat.le_of_ble_eq_true rfl
    · exact hw.elim
  · intro p e s m below meth c av h Q hxt G hw
    unfold wX0_sound at hw
    split at hw
    · exact tX0_sound_0 EN G ⟨rfl, rfl⟩ rfl hxt _ _ _ hw
    · exact hw.elim
/-! ChantRules$Choir.arcs()I (X1_arcs) -/
def bX1_arcs_0 (E : Nat → Value) (Q : Rs → HS → Prop) : Ct :=
  o_aload 0 <|
  o_getf [1] 0 <|
  o_push (.int 0) <|
  o_ald [103, 104, 105, 106, 107] <|
  o_getf [2] 0 <|
  o_callV [15] 1 (wJ2_size E) (x_out Q) <|
  o_aload 0 <|
  o_getf [1] 0 <|
  o_push (.int 1) <|
  o_ald [103, 104, 105, 106, 107] <|
  o_getf [2] 0 <|
  o_callV [15] 1 (wJ2_size E) (x_out Q) <|
  o_iadd <|
  o_ireturn .int Q
def wX1_arcs (E : Nat → Value) : Wp := fun av h Q => match av with
  | [a0] => bX1_arcs_0 E Q [a0] [] h
  | _ => False
set_option maxHeartbeats 4000000 in
theorem tX1_arcs_0 {x : CX} {E : Nat → Value} {Q : Rs → HS → Prop} (EN : EX x E) (G : Gd x cX1_arcs "ChantRules$Choir" yX1_arcs 1 (Option.some Jvm.ClassFile.FieldType.int) Q) (hF : x.1.2.2.2.frames = 3 ∧ x.1.2.2.2.locals = 84) (hC : x.2.2.2.2.2 = (fun _ => false)) (hxt : (∀ z ∈ x.2.2.1.2.1.exceptionTable.toList, False)) : Snd x 0 (bX1_arcs_0 E Q) := by
  unfold bX1_arcs_0
  refine s_aload_n rfl G.b dX1_arcs_0 ?_
  refine s_getf G.b G.ow G.kn (G.hts _ q192) (fun _ h => h) fa_5 dX1_arcs_1 ?_
  refine s_iconst (by decide) G.b dX1_arcs_4 ?_
  refine s_aald G.b G.kn dX1_arcs_5 ?_
  refine s_getfN G.b G.ow G.kn (va_Nw.use rfl (va_Nw.warmF G.warm (EN.nw q177 rfl))) (fun _ h => h) fa_3 dX1_arcs_6 ?_
  refine s_callV G (mJ2_size EN) q1838 q689 (sel_cons (r := (RJ2, TJ2, 3)) (by decide) rfl q690 (sel_nil)) q82 q691 nmk_28 (rm_of hF (Nat.le_of_ble_eq_true rfl) (Nat.le_of_ble_eq_true rfl)) dX1_arcs_9 ?_ (sx_out G (fun z hz => (hxt z hz).elim))
  refine s_aload_n rfl G.b dX1_arcs_12 ?_
  refine s_getf G.b G.ow G.kn (G.hts _ q192) (fun _ h => h) fa_5 dX1_arcs_13 ?_
  refine s_iconst (by decide) G.b dX1_arcs_16 ?_
  refine s_aald G.b G.kn dX1_arcs_17 ?_
  refine s_getfN G.b G.ow G.kn (va_Nw.use rfl (va_Nw.warmF G.warm (EN.nw q177 rfl))) (fun _ h => h) fa_3 dX1_arcs_18 ?_
  refine s_callV G (mJ2_size EN) q1838 q689 (sel_cons (r := (RJ2, TJ2, 3)) (by decide) rfl q690 (sel_nil)) q82 q691 nmk_28 (rm_of hF (Nat.le_of_ble_eq_true rfl) (Nat.le_of_ble_eq_true rfl)) dX1_arcs_21 ?_ (sx_out G (fun z hz => (hxt z hz).elim))
  refine s_iadd G.b dX1_arcs_24 ?_
  exact s_ireturn G dX1_arcs_25
set_option maxHeartbeats 4000000 in
theorem mX1_arcs {l : Launch} {D : DE} {s0 : State} {E : Nat → Value} (EN : EV l D s0 E) : rMet l D s0 yX1_arcs (ws_ yX1_arcs cX1_arcs 1 (Option.some Jvm.ClassFile.FieldType.int)) 3 84 (wX1_arcs E) := by
  refine body_met (fun _ => false) EN.kn (fun w h => h) (by decide +kernel) rfl (fun av h Q hw => ?_) ?_
  · unfold wX1_arcs at hw
    split at hw
    · exact Nat.le_of_ble_eq_true rfl
    · exact hw.elim
  · intro p e s m below meth c av h Q hxt G hw
    unfold wX1_arcs at hw
    split at hw
    · exact tX1_arcs_0 EN G ⟨rfl, rfl⟩ rfl hxt _ _ _ hw
    · exact hw.elim
/-! ChantRules$Sound.sign()C (X4_sign) -/
def bX4_sign_0 (E : Nat → Value) (Q : Rs → HS → Prop) : Ct :=
  o_push (.int 97) <|
  o_aload 0 <|
  o_callV [21, 22] 1 (wJ8_ordinal E) (x_out Q) <|
  o_iadd <|
  o_i2c <|
  o_ireturn .char Q
def wX4_sign (E : Nat → Value) : Wp := fun av h Q => match av with
  | [a0] => bX4_sign_0 E Q [a0] [] h
  | _ => False
set_option maxHeartbeats 4000000 in
theorem tX4_sign_0 {x : CX} {E : Nat → Value} {Q : Rs → HS → Prop} (EN : EX x E) (G : Gd x cX4_sign "ChantRules$Sound" yX4_sign 1 (Option.some Jvm.ClassFile.FieldType.char) Q) (hF : x.1.2.2.2.frames = 3 ∧ x.1.2.2.2.locals = 84) (hC : x.2.2.2.2.2 = (fun _ => false)) (hxt : (∀ z ∈ x.2.2.1.2.1.exceptionTable.toList, False)) : Snd x 0 (bX4_sign_0 E Q) := by
  unfold bX4_sign_0
  refine s_bipush (by decide) G.b dX4_sign_0 ?_
  refine s_aload_n rfl G.b dX4_sign_2 ?_
  refine s_callVU (w := ⟨"ChantRules$Sound", "ordinal", "()I"⟩) (owner := "java/lang/Enum") G (mJ8_ordinal EN) q1127 q275 (va_Decl.of (G.hts _ q279) (G.hts _ q280)) (by decide +kernel) q279 (sel_cons (r := (RSnd, TSnd, 1)) (by decide) rfl q277 (sel_cons (r := (RSnd1, TSnd, 1)) (by decide) rfl q278 (sel_nil))) q88 q280 nmk_8 (rm_of hF (Nat.le_of_ble_eq_true rfl) (Nat.le_of_ble_eq_true rfl)) dX4_sign_3 ?_ (sx_out G (fun z hz => (hxt z hz).elim))
  refine s_iadd G.b dX4_sign_6 ?_
  refine s_i2c G.b dX4_sign_7 ?_
  exact s_ireturn G dX4_sign_8
set_option maxHeartbeats 4000000 in
theorem mX4_sign {l : Launch} {D : DE} {s0 : State} {E : Nat → Value} (EN : EV l D s0 E) : rMet l D s0 yX4_sign (ws_ yX4_sign cX4_sign 1 (Option.some Jvm.ClassFile.FieldType.char)) 3 84 (wX4_sign E) := by
  refine body_met (fun _ => false) EN.kn (fun w h => h) (by decide +kernel) rfl (fun av h Q hw => ?_) ?_
  · unfold wX4_sign at hw
    split at hw
    · exact Nat.le_of_ble_eq_true rfl
    · exact hw.elim
  · intro p e s m below meth c av h Q hxt G hw
    unfold wX4_sign at hw
    split at hw
    · exact tX4_sign_0 EN G ⟨rfl, rfl⟩ rfl hxt _ _ _ hw
    · exact hw.elim
/-! ChantRules$Sound$1.sign()C (X15_sign) -/
def bX15_sign_0 (E : Nat → Value) (Q : Rs → HS → Prop) : Ct :=
  o_push (.int 45) <|
  o_ireturn .char Q
def wX15_sign (E : Nat → Value) : Wp := fun av h Q => match av with
  | [a0] => bX15_sign_0 E Q [a0] [] h
  | _ => False
set_option maxHeartbeats 4000000 in
theorem tX15_sign_0 {x : CX} {E : Nat → Value} {Q : Rs → HS → Prop} (EN : EX x E) (G : Gd x cX15_sign "ChantRules$Sound$1" yX15_sign 1 (Option.some Jvm.ClassFile.FieldType.char) Q) (hF : x.1.2.2.2.frames = 2 ∧ x.1.2.2.2.locals = 64) (hC : x.2.2.2.2.2 = (fun _ => false)) (hxt : (∀ z ∈ x.2.2.1.2.1.exceptionTable.toList, False)) : Snd x 0 (bX15_sign_0 E Q) := by
  unfold bX15_sign_0
  refine s_bipush (by decide) G.b dX15_sign_0 ?_
  exact s_ireturn G dX15_sign_2
set_option maxHeartbeats 4000000 in
theorem mX15_sign {l : Launch} {D : DE} {s0 : State} {E : Nat → Value} (EN : EV l D s0 E) : rMet l D s0 yX15_sign (ws_ yX15_sign cX15_sign 1 (Option.some Jvm.ClassFile.FieldType.char)) 2 64 (wX15_sign E) := by
  refine body_met (fun _ => false) EN.kn (fun w h => h) (by decide +kernel) rfl (fun av h Q hw => ?_) ?_
  · unfold wX15_sign at hw
    split at hw
    · exact Nat.le_of_ble_eq_true rfl
    · exact hw.elim
  · intro p e s m below meth c av h Q hxt G hw
    unfold wX15_sign at hw
    split at hw
    · exact tX15_sign_0 EN G ⟨rfl, rfl⟩ rfl hxt _ _ _ hw
    · exact hw.elim
/-! jdk/internal/util/Preconditions.checkFromToIndex(IIILjava/util/function/BiFunction;)I (J16_checkFromToIndex) -/
def bJ16_checkFromToIndex_22 (E : Nat → Value) (Q : Rs → HS → Prop) : Ct :=
  o_iload 0 <|
  o_ireturn .int Q
def bJ16_checkFromToIndex_14 (E : Nat → Value) (Q : Rs → HS → Prop) : Ct :=
  o_aload 3 <|
  o_iload 0 <|
  o_iload 1 <|
  o_iload 2 <|
  o_no
def bJ16_checkFromToIndex_0 (E : Nat → Value) (Q : Rs → HS → Prop) : Ct :=
  o_iload 0 <|
  o_iflt (bJ16_checkFromToIndex_14 E Q) <|
  o_iload 0 <|
  o_iload 1 <|
  o_icmpgt (bJ16_checkFromToIndex_14 E Q) <|
  o_iload 1 <|
  o_iload 2 <|
  o_icmple (bJ16_checkFromToIndex_22 E Q) <|
  (bJ16_checkFromToIndex_14 E Q)
def wJ16_checkFromToIndex (E : Nat → Value) : Wp := fun av h Q => match av with
  | [a0, a1, a2, a3] => bJ16_checkFromToIndex_0 E Q [a0, a1, a2, a3] [] h
  | _ => False
set_option maxHeartbeats 4000000 in
theorem tJ16_checkFromToIndex_22 {x : CX} {E : Nat → Value} {Q : Rs → HS → Prop} (EN : EX x E) (G : Gd x cJ16_checkFromToIndex "jdk/internal/util/Preconditions" yJ16_checkFromToIndex 4 (Option.some Jvm.ClassFile.FieldType.int) Q) (hF : x.1.2.2.2.frames = 2 ∧ x.1.2.2.2.locals = 64) (hC : x.2.2.2.2.2 = (fun _ => false)) (hxt : (∀ z ∈ x.2.2.1.2.1.exceptionTable.toList, False)) : Snd x 22 (bJ16_checkFromToIndex_22 E Q) := by
  unfold bJ16_checkFromToIndex_22
  refine s_iload_n rfl G.b dJ16_checkFromToIndex_22 ?_
  exact s_ireturn G dJ16_checkFromToIndex_23
set_option maxHeartbeats 4000000 in
theorem tJ16_checkFromToIndex_14 {x : CX} {E : Nat → Value} {Q : Rs → HS → Prop} (EN : EX x E) (G : Gd x cJ16_checkFromToIndex "jdk/internal/util/Preconditions" yJ16_checkFromToIndex 4 (Option.some Jvm.ClassFile.FieldType.int) Q) (hF : x.1.2.2.2.frames = 2 ∧ x.1.2.2.2.locals = 64) (hC : x.2.2.2.2.2 = (fun _ => false)) (hxt : (∀ z ∈ x.2.2.1.2.1.exceptionTable.toList, False)) : Snd x 14 (bJ16_checkFromToIndex_14 E Q) := by
  unfold bJ16_checkFromToIndex_14
  refine s_aload_n rfl G.b dJ16_checkFromToIndex_14 ?_
  refine s_iload_n rfl G.b dJ16_checkFromToIndex_15 ?_
  refine s_iload_n rfl G.b dJ16_checkFromToIndex_16 ?_
  refine s_iload_n rfl G.b dJ16_checkFromToIndex_17 ?_
  exact s_no
set_option maxHeartbeats 4000000 in
theorem tJ16_checkFromToIndex_0 {x : CX} {E : Nat → Value} {Q : Rs → HS → Prop} (EN : EX x E) (G : Gd x cJ16_checkFromToIndex "jdk/internal/util/Preconditions" yJ16_checkFromToIndex 4 (Option.some Jvm.ClassFile.FieldType.int) Q) (hF : x.1.2.2.2.frames = 2 ∧ x.1.2.2.2.locals = 64) (hC : x.2.2.2.2.2 = (fun _ => false)) (hxt : (∀ z ∈ x.2.2.1.2.1.exceptionTable.toList, False)) : Snd x 0 (bJ16_checkFromToIndex_0 E Q) := by
  unfold bJ16_checkFromToIndex_0
  refine s_iload_n rfl G.b dJ16_checkFromToIndex_0 ?_
  refine s_iflt (tgt := 14) G.b dJ16_checkFromToIndex_1 (by decide) (tJ16_checkFromToIndex_14 EN G hF hC hxt) ?_
  refine s_iload_n rfl G.b dJ16_checkFromToIndex_4 ?_
  refine s_iload_n rfl G.b dJ16_checkFromToIndex_5 ?_
  refine s_icmpgt (tgt := 14) G.b dJ16_checkFromToIndex_6 (by decide) (tJ16_checkFromToIndex_14 EN G hF hC hxt) ?_
  refine s_iload_n rfl G.b dJ16_checkFromToIndex_9 ?_
  refine s_iload_n rfl G.b dJ16_checkFromToIndex_10 ?_
  refine s_icmple (tgt := 22) G.b dJ16_checkFromToIndex_11 (by decide) (tJ16_checkFromToIndex_22 EN G hF hC hxt) ?_
  exact (tJ16_checkFromToIndex_14 EN G hF hC hxt)
set_option maxHeartbeats 4000000 in
theorem mJ16_checkFromToIndex {l : Launch} {D : DE} {s0 : State} {E : Nat → Value} (EN : EV l D s0 E) : rMet l D s0 yJ16_checkFromToIndex (ws_ yJ16_checkFromToIndex cJ16_checkFromToIndex 4 (Option.some Jvm.ClassFile.FieldType.int)) 2 64 (wJ16_checkFromToIndex E) := by
  refine body_met (fun _ => false) EN.kn (fun w h => h) (by decide +kernel) rfl (fun av h Q hw => ?_) ?_
  · unfold wJ16_checkFromToIndex at hw
    split at hw
    · exact Nat.le_of_ble_eq_true rfl
    · exact hw.elim
  · intro p e s m below meth c av h Q hxt G hw
    unfold wJ16_checkFromToIndex at hw
    split at hw
    · exact tJ16_checkFromToIndex_0 EN G ⟨rfl, rfl⟩ rfl hxt _ _ _ hw
    · exact hw.elim
/-! java/lang/String.checkBoundsBeginEnd(III)V (J6_checkBoundsBeginEnd) -/
theorem nmk_164 : nm_ok yJ16_checkFromToIndex 4 := ⟨by decide +kernel, by decide +kernel, by decide +kernel⟩
def bJ6_checkBoundsBeginEnd_0 (E : Nat → Value) (Q : Rs → HS → Prop) : Ct :=
  o_iload 0 <|
  o_iload 1 <|
  o_iload 2 <|
  o_push (E 16) <|
  o_call 4 (wJ16_checkFromToIndex E) (x_out Q) <|
  o_pop <|
  o_return Q
def wJ6_checkBoundsBeginEnd (E : Nat → Value) : Wp := fun av h Q => match av with
  | [a0, a1, a2] => bJ6_checkBoundsBeginEnd_0 E Q [a0, a1, a2] [] h
  | _ => False
set_option maxHeartbeats 4000000 in
theorem tJ6_checkBoundsBeginEnd_0 {x : CX} {E : Nat → Value} {Q : Rs → HS → Prop} (EN : EX x E) (G : Gd x cJ6_checkBoundsBeginEnd "java/lang/String" yJ6_checkBoundsBeginEnd 3 (Option.none : Option Jvm.ClassFile.FieldType) Q) (hF : x.1.2.2.2.frames = 3 ∧ x.1.2.2.2.locals = 87) (hC : x.2.2.2.2.2 = (fun _ => false)) (hxt : (∀ z ∈ x.2.2.1.2.1.exceptionTable.toList, False)) : Snd x 0 (bJ6_checkBoundsBeginEnd_0 E Q) := by
  unfold bJ6_checkBoundsBeginEnd_0
  refine s_iload_n rfl G.b dJ6_checkBoundsBeginEnd_0 ?_
  refine s_iload_n rfl G.b dJ6_checkBoundsBeginEnd_1 ?_
  refine s_iload_n rfl G.b dJ6_checkBoundsBeginEnd_2 ?_
  refine s_getst EN G q954 (i := 16) rfl dJ6_checkBoundsBeginEnd_3 ?_
  refine s_callS G (mJ16_checkFromToIndex EN) q1538 q1539 q102 q1540 nmk_164 (rm_of hF (Nat.le_of_ble_eq_true rfl) (Nat.le_of_ble_eq_true rfl)) dJ6_checkBoundsBeginEnd_6 ?_ (sx_out G (fun z hz => (hxt z hz).elim))
  refine s_pop G.b dJ6_checkBoundsBeginEnd_9 ?_
  exact s_return G dJ6_checkBoundsBeginEnd_10
set_option maxHeartbeats 4000000 in
theorem mJ6_checkBoundsBeginEnd {l : Launch} {D : DE} {s0 : State} {E : Nat → Value} (EN : EV l D s0 E) : rMet l D s0 yJ6_checkBoundsBeginEnd (ws_ yJ6_checkBoundsBeginEnd cJ6_checkBoundsBeginEnd 3 (Option.none : Option Jvm.ClassFile.FieldType)) 3 87 (wJ6_checkBoundsBeginEnd E) := by
  refine body_met (fun _ => false) EN.kn (fun w h => h) (by decide +kernel) rfl (fun av h Q hw => ?_) ?_
  · unfold wJ6_checkBoundsBeginEnd at hw
    split at hw
    · exact Nat.le_of_ble_eq_true rfl
    · exact hw.elim
  · intro p e s m below meth c av h Q hxt G hw
    unfold wJ6_checkBoundsBeginEnd at hw
    split at hw
    · exact tJ6_checkBoundsBeginEnd_0 EN G ⟨rfl, rfl⟩ rfl hxt _ _ _ hw
    · exact hw.elim
/-! java/lang/StringUTF16.checkBoundsBeginEnd(II[B)V (J7_checkBoundsBeginEnd) -/
theorem nmk_165 : nm_ok yJ6_checkBoundsBeginEnd 3 := ⟨by decide +kernel, by decide +kernel, by decide +kernel⟩
def bJ7_checkBoundsBeginEnd_0 (E : Nat → Value) (Q : Rs → HS → Prop) : Ct :=
  o_iload 0 <|
  o_iload 1 <|
  o_aload 2 <|
  o_call 1 (wJ7_length E) (x_out Q) <|
  o_call 3 (wJ6_checkBoundsBeginEnd E) (x_out Q) <|
  o_return Q
def wJ7_checkBoundsBeginEnd (E : Nat → Value) : Wp := fun av h Q => match av with
  | [a0, a1, a2] => bJ7_checkBoundsBeginEnd_0 E Q [a0, a1, a2] [] h
  | _ => False
set_option maxHeartbeats 4000000 in
theorem tJ7_checkBoundsBeginEnd_0 {x : CX} {E : Nat → Value} {Q : Rs → HS → Prop} (EN : EX x E) (G : Gd x cJ7_checkBoundsBeginEnd "java/lang/StringUTF16" yJ7_checkBoundsBeginEnd 3 (Option.none : Option Jvm.ClassFile.FieldType) Q) (hF : x.1.2.2.2.frames = 4 ∧ x.1.2.2.2.locals = 109) (hC : x.2.2.2.2.2 = (fun _ => false)) (hxt : (∀ z ∈ x.2.2.1.2.1.exceptionTable.toList, False)) : Snd x 0 (bJ7_checkBoundsBeginEnd_0 E Q) := by
  unfold bJ7_checkBoundsBeginEnd_0
  refine s_iload_n rfl G.b dJ7_checkBoundsBeginEnd_0 ?_
  refine s_iload_n rfl G.b dJ7_checkBoundsBeginEnd_1 ?_
  refine s_aload_n rfl G.b dJ7_checkBoundsBeginEnd_2 ?_
  refine s_callS G (mJ7_length EN) q962 q963 q87 q964 nmk_34 (rm_of hF (Nat.le_of_ble_eq_true rfl) (Nat.le_of_ble_eq_true rfl)) dJ7_checkBoundsBeginEnd_3 ?_ (sx_out G (fun z hz => (hxt z hz).elim))
  refine s_callS G (mJ6_checkBoundsBeginEnd EN) q1535 q1536 q86 q1537 nmk_165 (rm_of hF (Nat.le_of_ble_eq_true rfl) (Nat.le_of_ble_eq_true rfl)) dJ7_checkBoundsBeginEnd_6 ?_ (sx_out G (fun z hz => (hxt z hz).elim))
  exact s_return G dJ7_checkBoundsBeginEnd_9
set_option maxHeartbeats 4000000 in
theorem mJ7_checkBoundsBeginEnd {l : Launch} {D : DE} {s0 : State} {E : Nat → Value} (EN : EV l D s0 E) : rMet l D s0 yJ7_checkBoundsBeginEnd (ws_ yJ7_checkBoundsBeginEnd cJ7_checkBoundsBeginEnd 3 (Option.none : Option Jvm.ClassFile.FieldType)) 4 109 (wJ7_checkBoundsBeginEnd E) := by
  refine body_met (fun _ => false) EN.kn (fun w h => h) (by decide +kernel) rfl (fun av h Q hw => ?_) ?_
  · unfold wJ7_checkBoundsBeginEnd at hw
    split at hw
    · exact Nat.le_of_ble_eq_true rfl
    · exact hw.elim
  · intro p e s m below meth c av h Q hxt G hw
    unfold wJ7_checkBoundsBeginEnd at hw
    split at hw
    · exact tJ7_checkBoundsBeginEnd_0 EN G ⟨rfl, rfl⟩ rfl hxt _ _ _ hw
    · exact hw.elim
/-! java/lang/StringUTF16.putCharsAt([BICCCC)I (J7_putCharsAt) -/
theorem nmk_166 : nm_ok yJ7_checkBoundsBeginEnd 3 := ⟨by decide +kernel, by decide +kernel, by decide +kernel⟩
def bJ7_putCharsAt_70 (E : Nat → Value) (Q : Rs → HS → Prop) : Ct :=
  o_iload 6 <|
  o_ireturn .int Q
def bJ7_putCharsAt_0 (E : Nat → Value) (Q : Rs → HS → Prop) : Ct :=
  o_iload 1 <|
  o_push (.int 4) <|
  o_iadd <|
  o_istore 6 <|
  o_iload 1 <|
  o_iload 6 <|
  o_aload 0 <|
  o_call 3 (wJ7_checkBoundsBeginEnd E) (x_out Q) <|
  o_aload 0 <|
  o_iload 1 <|
  o_iinc 1 1 <|
  o_iload 2 <|
  o_call 3 (wJ7_putChar E) (x_out Q) <|
  o_aload 0 <|
  o_iload 1 <|
  o_iinc 1 1 <|
  o_iload 3 <|
  o_call 3 (wJ7_putChar E) (x_out Q) <|
  o_aload 0 <|
  o_iload 1 <|
  o_iinc 1 1 <|
  o_iload 4 <|
  o_call 3 (wJ7_putChar E) (x_out Q) <|
  o_aload 0 <|
  o_iload 1 <|
  o_iinc 1 1 <|
  o_iload 5 <|
  o_call 3 (wJ7_putChar E) (x_out Q) <|
  o_push (E 9) <|
  o_ifne (bJ7_putCharsAt_70 E Q) <|
  o_iload 1 <|
  o_iload 6 <|
  o_icmpeq (bJ7_putCharsAt_70 E Q) <|
  o_no
def wJ7_putCharsAt (E : Nat → Value) : Wp := fun av h Q => match av with
  | [a0, a1, a2, a3, a4, a5] => bJ7_putCharsAt_0 E Q [a0, a1, a2, a3, a4, a5, jk] [] h
  | _ => False
set_option maxHeartbeats 4000000 in
theorem tJ7_putCharsAt_70 {x : CX} {E : Nat → Value} {Q : Rs → HS → Prop} (EN : EX x E) (G : Gd x cJ7_putCharsAt "java/lang/StringUTF16" yJ7_putCharsAt 7 (Option.some Jvm.ClassFile.FieldType.int) Q) (hF : x.1.2.2.2.frames = 5 ∧ x.1.2.2.2.locals = 131) (hC : x.2.2.2.2.2 = (fun _ => false)) (hxt : (∀ z ∈ x.2.2.1.2.1.exceptionTable.toList, False)) : Snd x 70 (bJ7_putCharsAt_70 E Q) := by
  unfold bJ7_putCharsAt_70
  refine s_iload G.b dJ7_putCharsAt_70 ?_
  exact s_ireturn G dJ7_putCharsAt_72
set_option maxHeartbeats 4000000 in
theorem tJ7_putCharsAt_0 {x : CX} {E : Nat → Value} {Q : Rs → HS → Prop} (EN : EX x E) (G : Gd x cJ7_putCharsAt "java/lang/StringUTF16" yJ7_putCharsAt 7 (Option.some Jvm.ClassFile.FieldType.int) Q) (hF : x.1.2.2.2.frames = 5 ∧ x.1.2.2.2.locals = 131) (hC : x.2.2.2.2.2 = (fun _ => false)) (hxt : (∀ z ∈ x.2.2.1.2.1.exceptionTable.toList, False)) : Snd x 0 (bJ7_putCharsAt_0 E Q) := by
  unfold bJ7_putCharsAt_0
  refine s_iload_n rfl G.b dJ7_putCharsAt_0 ?_
  refine s_iconst (by decide) G.b dJ7_putCharsAt_1 ?_
  refine s_iadd G.b dJ7_putCharsAt_2 ?_
  refine s_istore G.b (by rw [G.nl]; decide) (fun _ _ => by rw [hC]) dJ7_putCharsAt_3 ?_
  refine s_iload_n rfl G.b dJ7_putCharsAt_5 ?_
  refine s_iload G.b dJ7_putCharsAt_6 ?_
  refine s_aload_n rfl G.b dJ7_putCharsAt_8 ?_
  refine s_callS G (mJ7_checkBoundsBeginEnd EN) q1532 q1533 q87 q1534 nmk_166 (rm_of hF (Nat.le_of_ble_eq_true rfl) (Nat.le_of_ble_eq_true rfl)) dJ7_putCharsAt_9 ?_ (sx_out G (fun z hz => (hxt z hz).elim))
  refine s_aload_n rfl G.b dJ7_putCharsAt_12 ?_
  refine s_iload_n rfl G.b dJ7_putCharsAt_13 ?_
  refine s_iinc (by decide) G.b (by rw [G.nl]; decide) (fun _ _ => by rw [hC]) dJ7_putCharsAt_14 ?_
  refine s_iload_n rfl G.b dJ7_putCharsAt_17 ?_
  refine s_callS G (mJ7_putChar EN) q1180 q1181 q87 q1182 nmk_36 (rm_of hF (Nat.le_of_ble_eq_true rfl) (Nat.le_of_ble_eq_true rfl)) dJ7_putCharsAt_18 ?_ (sx_out G (fun z hz => (hxt z hz).elim))
  refine s_aload_n rfl G.b dJ7_putCharsAt_21 ?_
  refine s_iload_n rfl G.b dJ7_putCharsAt_22 ?_
  refine s_iinc (by decide) G.b (by rw [G.nl]; decide) (fun _ _ => by rw [hC]) dJ7_putCharsAt_23 ?_
  refine s_iload_n rfl G.b dJ7_putCharsAt_26 ?_
  refine s_callS G (mJ7_putChar EN) q1180 q1181 q87 q1182 nmk_36 (rm_of hF (Nat.le_of_ble_eq_true rfl) (Nat.le_of_ble_eq_true rfl)) dJ7_putCharsAt_27 ?_ (sx_out G (fun z hz => (hxt z hz).elim))
  refine s_aload_n rfl G.b dJ7_putCharsAt_30 ?_
  refine s_iload_n rfl G.b dJ7_putCharsAt_31 ?_
  refine s_iinc (by decide) G.b (by rw [G.nl]; decide) (fun _ _ => by rw [hC]) dJ7_putCharsAt_32 ?_
  refine s_iload G.b dJ7_putCharsAt_35 ?_
  refine s_callS G (mJ7_putChar EN) q1180 q1181 q87 q1182 nmk_36 (rm_of hF (Nat.le_of_ble_eq_true rfl) (Nat.le_of_ble_eq_true rfl)) dJ7_putCharsAt_37 ?_ (sx_out G (fun z hz => (hxt z hz).elim))
  refine s_aload_n rfl G.b dJ7_putCharsAt_40 ?_
  refine s_iload_n rfl G.b dJ7_putCharsAt_41 ?_
  refine s_iinc (by decide) G.b (by rw [G.nl]; decide) (fun _ _ => by rw [hC]) dJ7_putCharsAt_42 ?_
  refine s_iload G.b dJ7_putCharsAt_45 ?_
  refine s_callS G (mJ7_putChar EN) q1180 q1181 q87 q1182 nmk_36 (rm_of hF (Nat.le_of_ble_eq_true rfl) (Nat.le_of_ble_eq_true rfl)) dJ7_putCharsAt_47 ?_ (sx_out G (fun z hz => (hxt z hz).elim))
  refine s_getst EN G q960 (i := 9) rfl dJ7_putCharsAt_50 ?_
  refine s_ifne (tgt := 70) G.b dJ7_putCharsAt_53 (by decide) (tJ7_putCharsAt_70 EN G hF hC hxt) ?_
  refine s_iload_n rfl G.b dJ7_putCharsAt_56 ?_
  refine s_iload G.b dJ7_putCharsAt_57 ?_
  refine s_icmpeq (tgt := 70) G.b dJ7_putCharsAt_59 (by decide) (tJ7_putCharsAt_70 EN G hF hC hxt) ?_
  exact s_no
set_option maxHeartbeats 4000000 in
theorem mJ7_putCharsAt {l : Launch} {D : DE} {s0 : State} {E : Nat → Value} (EN : EV l D s0 E) : rMet l D s0 yJ7_putCharsAt (ws_ yJ7_putCharsAt cJ7_putCharsAt 7 (Option.some Jvm.ClassFile.FieldType.int)) 5 131 (wJ7_putCharsAt E) := by
  refine body_met (fun _ => false) EN.kn (fun w h => h) (by decide +kernel) rfl (fun av h Q hw => ?_) ?_
  · unfold wJ7_putCharsAt at hw
    split at hw
    · exact Nat.le_of_ble_eq_true rfl
    · exact hw.elim
  · intro p e s m below meth c av h Q hxt G hw
    unfold wJ7_putCharsAt at hw
    split at hw
    · exact tJ7_putCharsAt_0 EN G ⟨rfl, rfl⟩ rfl hxt _ _ _ hw
    · exact hw.elim
/-! java/lang/AbstractStringBuilder.appendNull()Ljava/lang/AbstractStringBuilder; (J4_appendNull) -/
theorem nmk_167 : nm_ok yJ7_putCharsAt 6 := ⟨by decide +kernel, by decide +kernel, by decide +kernel⟩
def bJ4_appendNull_76 (E : Nat → Value) (Q : Rs → HS → Prop) : Ct :=
  o_aload 0 <|
  o_iload 1 <|
  o_putf [18] 3 .int <|
  o_aload 0 <|
  o_areturn Q
def bJ4_appendNull_62 (E : Nat → Value) (Q : Rs → HS → Prop) : Ct :=
  o_aload 2 <|
  o_iload 1 <|
  o_push (.int 110) <|
  o_push (.int 117) <|
  o_push (.int 108) <|
  o_push (.int 108) <|
  o_call 6 (wJ7_putCharsAt E) (x_out Q) <|
  o_istore 1 <|
  (bJ4_appendNull_76 E Q)
def bJ4_appendNull_0 (E : Nat → Value) (Q : Rs → HS → Prop) : Ct :=
  o_aload 0 <|
  o_aload 0 <|
  o_getf [18] 3 <|
  o_push (.int 4) <|
  o_iadd <|
  o_callV [18] 2 (wJ4_ensureCapacityInternal E) (x_out Q) <|
  o_aload 0 <|
  o_getf [18] 3 <|
  o_istore 1 <|
  o_aload 0 <|
  o_getf [18] 0 <|
  o_astore 2 <|
  o_aload 0 <|
  o_callV [18] 1 (wJ4_isLatin1 E) (x_out Q) <|
  o_ifeq (bJ4_appendNull_62 E Q) <|
  o_aload 2 <|
  o_iload 1 <|
  o_iinc 1 1 <|
  o_push (.int 110) <|
  o_ast [(101, .boolean), (102, .byte)] <|
  o_aload 2 <|
  o_iload 1 <|
  o_iinc 1 1 <|
  o_push (.int 117) <|
  o_ast [(101, .boolean), (102, .byte)] <|
  o_aload 2 <|
  o_iload 1 <|
  o_iinc 1 1 <|
  o_push (.int 108) <|
  o_ast [(101, .boolean), (102, .byte)] <|
  o_aload 2 <|
  o_iload 1 <|
  o_iinc 1 1 <|
  o_push (.int 108) <|
  o_ast [(101, .boolean), (102, .byte)] <|
  (bJ4_appendNull_76 E Q)
def wJ4_appendNull (E : Nat → Value) : Wp := fun av h Q => match av with
  | [a0] => bJ4_appendNull_0 E Q [a0, jk, jk] [] h
  | _ => False
set_option maxHeartbeats 4000000 in
theorem tJ4_appendNull_76 {x : CX} {E : Nat → Value} {Q : Rs → HS → Prop} (EN : EX x E) (G : Gd x cJ4_appendNull "java/lang/AbstractStringBuilder" yJ4_appendNull 3 (Option.some (Jvm.ClassFile.FieldType.object "java/lang/AbstractStringBuilder")) Q) (hF : x.1.2.2.2.frames = 10 ∧ x.1.2.2.2.locals = 244) (hC : x.2.2.2.2.2 = (fun _ => false)) (hxt : (∀ z ∈ x.2.2.1.2.1.exceptionTable.toList, False)) : Snd x 76 (bJ4_appendNull_76 E Q) := by
  unfold bJ4_appendNull_76
  refine s_aload_n rfl G.b dJ4_appendNull_76 ?_
  refine s_iload_n rfl G.b dJ4_appendNull_77 ?_
  refine s_putf G.b G.ow G.kn (G.hts _ q249) (fun _ h => h) fa_23 (la_cons (r := (RJ5, TJ5, 4)) G.hts (by decide) rfl q256 (la_nil)) (by decide +kernel) dJ4_appendNull_78 ?_
  refine s_aload_n rfl G.b dJ4_appendNull_81 ?_
  exact s_areturn (Or.inl ⟨_, rfl⟩) G dJ4_appendNull_82
set_option maxHeartbeats 4000000 in
theorem tJ4_appendNull_62 {x : CX} {E : Nat → Value} {Q : Rs → HS → Prop} (EN : EX x E) (G : Gd x cJ4_appendNull "java/lang/AbstractStringBuilder" yJ4_appendNull 3 (Option.some (Jvm.ClassFile.FieldType.object "java/lang/AbstractStringBuilder")) Q) (hF : x.1.2.2.2.frames = 10 ∧ x.1.2.2.2.locals = 244) (hC : x.2.2.2.2.2 = (fun _ => false)) (hxt : (∀ z ∈ x.2.2.1.2.1.exceptionTable.toList, False)) : Snd x 62 (bJ4_appendNull_62 E Q) := by
  unfold bJ4_appendNull_62
  refine s_aload_n rfl G.b dJ4_appendNull_62 ?_
  refine s_iload_n rfl G.b dJ4_appendNull_63 ?_
  refine s_bipush (by decide) G.b dJ4_appendNull_64 ?_
  refine s_bipush (by decide) G.b dJ4_appendNull_66 ?_
  refine s_bipush (by decide) G.b dJ4_appendNull_68 ?_
  refine s_bipush (by decide) G.b dJ4_appendNull_70 ?_
  refine s_callS G (mJ7_putCharsAt EN) q1773 q1774 q87 q1775 nmk_167 (rm_of hF (Nat.le_of_ble_eq_true rfl) (Nat.le_of_ble_eq_true rfl)) dJ4_appendNull_72 ?_ (sx_out G (fun z hz => (hxt z hz).elim))
  refine s_istore_n rfl G.b (by rw [G.nl]; decide) (fun _ _ => by rw [hC]) dJ4_appendNull_75 ?_
  exact (tJ4_appendNull_76 EN G hF hC hxt)
set_option maxHeartbeats 4000000 in
theorem tJ4_appendNull_0 {x : CX} {E : Nat → Value} {Q : Rs → HS → Prop} (EN : EX x E) (G : Gd x cJ4_appendNull "java/lang/AbstractStringBuilder" yJ4_appendNull 3 (Option.some (Jvm.ClassFile.FieldType.object "java/lang/AbstractStringBuilder")) Q) (hF : x.1.2.2.2.frames = 10 ∧ x.1.2.2.2.locals = 244) (hC : x.2.2.2.2.2 = (fun _ => false)) (hxt : (∀ z ∈ x.2.2.1.2.1.exceptionTable.toList, False)) : Snd x 0 (bJ4_appendNull_0 E Q) := by
  unfold bJ4_appendNull_0
  refine s_aload_n rfl G.b dJ4_appendNull_0 ?_
  refine s_aload_n rfl G.b dJ4_appendNull_1 ?_
  refine s_getf G.b G.ow G.kn (G.hts _ q249) (fun _ h => h) fa_23 dJ4_appendNull_2 ?_
  refine s_iconst (by decide) G.b dJ4_appendNull_5 ?_
  refine s_iadd G.b dJ4_appendNull_6 ?_
  refine s_callVP EN (by decide) G (mJ4_ensureCapacityInternal EN) q1135 q1136 q1137 q2347 q84 q1138 nmk_46 (rm_of hF (Nat.le_of_ble_eq_true rfl) (Nat.le_of_ble_eq_true rfl)) dJ4_appendNull_7 ?_ (sx_out G (fun z hz => (hxt z hz).elim))
  refine s_aload_n rfl G.b dJ4_appendNull_10 ?_
  refine s_getf G.b G.ow G.kn (G.hts _ q249) (fun _ h => h) fa_23 dJ4_appendNull_11 ?_
  refine s_istore_n rfl G.b (by rw [G.nl]; decide) (fun _ _ => by rw [hC]) dJ4_appendNull_14 ?_
  refine s_aload_n rfl G.b dJ4_appendNull_15 ?_
  refine s_getf G.b G.ow G.kn (G.hts _ q245) (fun _ h => h) fa_7 dJ4_appendNull_16 ?_
  refine s_astore_n rfl G.b (by rw [G.nl]; decide) (fun _ _ => by rw [hC]) dJ4_appendNull_19 ?_
  refine s_aload_n rfl G.b dJ4_appendNull_20 ?_
  refine s_callV G (mJ4_isLatin1 EN) q1153 q1154 (sel_cons (r := (RJ5, TJ5, 4)) (by decide) rfl q1156 (sel_nil)) q84 q1157 nmk_40 (rm_of hF (Nat.le_of_ble_eq_true rfl) (Nat.le_of_ble_eq_true rfl)) dJ4_appendNull_21 ?_ (sx_out G (fun z hz => (hxt z hz).elim))
  refine s_ifeq (tgt := 62) G.b dJ4_appendNull_24 (by decide) (tJ4_appendNull_62 EN G hF hC hxt) ?_
  refine s_aload_n rfl G.b dJ4_appendNull_27 ?_
  refine s_iload_n rfl G.b dJ4_appendNull_28 ?_
  refine s_iinc (by decide) G.b (by rw [G.nl]; decide) (fun _ _ => by rw [hC]) dJ4_appendNull_29 ?_
  refine s_bipush (by decide) G.b dJ4_appendNull_32 ?_
  refine s_bast G.b G.kn dJ4_appendNull_34 ?_
  refine s_aload_n rfl G.b dJ4_appendNull_35 ?_
  refine s_iload_n rfl G.b dJ4_appendNull_36 ?_
  refine s_iinc (by decide) G.b (by rw [G.nl]; decide) (fun _ _ => by rw [hC]) dJ4_appendNull_37 ?_
  refine s_bipush (by decide) G.b dJ4_appendNull_40 ?_
  refine s_bast G.b G.kn dJ4_appendNull_42 ?_
  refine s_aload_n rfl G.b dJ4_appendNull_43 ?_
  refine s_iload_n rfl G.b dJ4_appendNull_44 ?_
  refine s_iinc (by decide) G.b (by rw [G.nl]; decide) (fun _ _ => by rw [hC]) dJ4_appendNull_45 ?_
  refine s_bipush (by decide) G.b dJ4_appendNull_48 ?_
  refine s_bast G.b G.kn dJ4_appendNull_50 ?_
  refine s_aload_n rfl G.b dJ4_appendNull_51 ?_
  refine s_iload_n rfl G.b dJ4_appendNull_52 ?_
  refine s_iinc (by decide) G.b (by rw [G.nl]; decide) (fun _ _ => by rw [hC]) dJ4_appendNull_53 ?_
  refine s_bipush (by decide) G.b dJ4_appendNull_56 ?_
  refine s_bast G.b G.kn dJ4_appendNull_58 ?_
  exact s_goto (tgt := 76) G.b dJ4_appendNull_59 (by decide) (tJ4_appendNull_76 EN G hF hC hxt)
set_option maxHeartbeats 4000000 in
theorem mJ4_appendNull {l : Launch} {D : DE} {s0 : State} {E : Nat → Value} (EN : EV l D s0 E) : rMet l D s0 yJ4_appendNull (ws_ yJ4_appendNull cJ4_appendNull 3 (Option.some (Jvm.ClassFile.FieldType.object "java/lang/AbstractStringBuilder"))) 10 244 (wJ4_appendNull E) := by
  refine body_met (fun _ => false) EN.kn (fun w h => h) (by decide +kernel) rfl (fun av h Q hw => ?_) ?_
  · unfold wJ4_appendNull at hw
    split at hw
    · exact Nat.le_of_ble_eq_true rfl
    · exact hw.elim
  · intro p e s m below meth c av h Q hxt G hw
    unfold wJ4_appendNull at hw
    split at hw
    · exact tJ4_appendNull_0 EN G ⟨rfl, rfl⟩ rfl hxt _ _ _ hw
    · exact hw.elim
/-! java/lang/AbstractStringBuilder.inflateIfNeededFor(Ljava/lang/String;)V (J4_inflateIfNeededFor) -/
def bJ4_inflateIfNeededFor_21 (E : Nat → Value) (Q : Rs → HS → Prop) : Ct :=
  o_return Q
def bJ4_inflateIfNeededFor_0 (E : Nat → Value) (Q : Rs → HS → Prop) : Ct :=
  o_push (E 8) <|
  o_ifeq (bJ4_inflateIfNeededFor_21 E Q) <|
  o_aload 0 <|
  o_getf [18] 1 <|
  o_aload 1 <|
  o_callV [19] 1 (wJ6_coder E) (x_out Q) <|
  o_icmpeq (bJ4_inflateIfNeededFor_21 E Q) <|
  o_aload 0 <|
  o_callV [18] 1 (wJ4_inflate E) (x_out Q) <|
  (bJ4_inflateIfNeededFor_21 E Q)
def wJ4_inflateIfNeededFor (E : Nat → Value) : Wp := fun av h Q => match av with
  | [a0, a1] => bJ4_inflateIfNeededFor_0 E Q [a0, a1] [] h
  | _ => False
set_option maxHeartbeats 4000000 in
theorem tJ4_inflateIfNeededFor_21 {x : CX} {E : Nat → Value} {Q : Rs → HS → Prop} (EN : EX x E) (G : Gd x cJ4_inflateIfNeededFor "java/lang/AbstractStringBuilder" yJ4_inflateIfNeededFor 2 (Option.none : Option Jvm.ClassFile.FieldType) Q) (hF : x.1.2.2.2.frames = 8 ∧ x.1.2.2.2.locals = 201) (hC : x.2.2.2.2.2 = (fun _ => false)) (hxt : (∀ z ∈ x.2.2.1.2.1.exceptionTable.toList, False)) : Snd x 21 (bJ4_inflateIfNeededFor_21 E Q) := by
  unfold bJ4_inflateIfNeededFor_21
  exact s_return G dJ4_inflateIfNeededFor_21
set_option maxHeartbeats 4000000 in
theorem tJ4_inflateIfNeededFor_0 {x : CX} {E : Nat → Value} {Q : Rs → HS → Prop} (EN : EX x E) (G : Gd x cJ4_inflateIfNeededFor "java/lang/AbstractStringBuilder" yJ4_inflateIfNeededFor 2 (Option.none : Option Jvm.ClassFile.FieldType) Q) (hF : x.1.2.2.2.frames = 8 ∧ x.1.2.2.2.locals = 201) (hC : x.2.2.2.2.2 = (fun _ => false)) (hxt : (∀ z ∈ x.2.2.1.2.1.exceptionTable.toList, False)) : Snd x 0 (bJ4_inflateIfNeededFor_0 E Q) := by
  unfold bJ4_inflateIfNeededFor_0
  refine s_getst EN G q236 (i := 8) rfl dJ4_inflateIfNeededFor_0 ?_
  refine s_ifeq (tgt := 21) G.b dJ4_inflateIfNeededFor_3 (by decide) (tJ4_inflateIfNeededFor_21 EN G hF hC hxt) ?_
  refine s_aload_n rfl G.b dJ4_inflateIfNeededFor_6 ?_
  refine s_getf G.b G.ow G.kn (G.hts _ q246) (fun _ h => h) fa_8 dJ4_inflateIfNeededFor_7 ?_
  refine s_aload_n rfl G.b dJ4_inflateIfNeededFor_10 ?_
  refine s_callV G (mJ6_coder EN) q1785 q986 (sel_cons (r := (RJ6, TJ6, 4)) (by decide) rfl q987 (sel_nil)) q86 q988 nmk_112 (rm_of hF (Nat.le_of_ble_eq_true rfl) (Nat.le_of_ble_eq_true rfl)) dJ4_inflateIfNeededFor_11 ?_ (sx_out G (fun z hz => (hxt z hz).elim))
  refine s_icmpeq (tgt := 21) G.b dJ4_inflateIfNeededFor_14 (by decide) (tJ4_inflateIfNeededFor_21 EN G hF hC hxt) ?_
  refine s_aload_n rfl G.b dJ4_inflateIfNeededFor_17 ?_
  refine s_callVP EN (by decide) G (mJ4_inflate EN) q1161 q1162 q1163 q2349 q84 q1164 nmk_45 (rm_of hF (Nat.le_of_ble_eq_true rfl) (Nat.le_of_ble_eq_true rfl)) dJ4_inflateIfNeededFor_18 ?_ (sx_out G (fun z hz => (hxt z hz).elim))
  exact (tJ4_inflateIfNeededFor_21 EN G hF hC hxt)
set_option maxHeartbeats 4000000 in
theorem mJ4_inflateIfNeededFor {l : Launch} {D : DE} {s0 : State} {E : Nat → Value} (EN : EV l D s0 E) : rMet l D s0 yJ4_inflateIfNeededFor (ws_ yJ4_inflateIfNeededFor cJ4_inflateIfNeededFor 2 (Option.none : Option Jvm.ClassFile.FieldType)) 8 201 (wJ4_inflateIfNeededFor E) := by
  refine body_met (fun _ => false) EN.kn (fun w h => h) (by decide +kernel) rfl (fun av h Q hw => ?_) ?_
  · unfold wJ4_inflateIfNeededFor at hw
    split at hw
    · exact Nat.le_of_ble_eq_true rfl
    · exact hw.elim
  · intro p e s m below meth c av h Q hxt G hw
    unfold wJ4_inflateIfNeededFor at hw
    split at hw
    · exact tJ4_inflateIfNeededFor_0 EN G ⟨rfl, rfl⟩ rfl hxt _ _ _ hw
    · exact hw.elim
/-! java/lang/String.getBytes([BIB)V (J6_getBytes) -/
def bJ6_getBytes_43 (E : Nat → Value) (Q : Rs → HS → Prop) : Ct :=
  o_return Q
def bJ6_getBytes_28 (E : Nat → Value) (Q : Rs → HS → Prop) : Ct :=
  o_aload 0 <|
  o_getf [19] 0 <|
  o_push (.int 0) <|
  o_aload 1 <|
  o_iload 2 <|
  o_aload 0 <|
  o_getf [19] 0 <|
  o_alen <|
  o_call 5 (wJ17_inflate E) (x_out Q) <|
  (bJ6_getBytes_43 E Q)
def bJ6_getBytes_0 (E : Nat → Value) (Q : Rs → HS → Prop) : Ct :=
  o_aload 0 <|
  o_callV [19] 1 (wJ6_coder E) (x_out Q) <|
  o_iload 3 <|
  o_icmpne (bJ6_getBytes_28 E Q) <|
  o_aload 0 <|
  o_getf [19] 0 <|
  o_push (.int 0) <|
  o_aload 1 <|
  o_iload 2 <|
  o_iload 3 <|
  o_ishl <|
  o_aload 0 <|
  o_getf [19] 0 <|
  o_alen <|
  o_acopy <|
  (bJ6_getBytes_43 E Q)
def wJ6_getBytes (E : Nat → Value) : Wp := fun av h Q => match av with
  | [a0, a1, a2, a3] => bJ6_getBytes_0 E Q [a0, a1, a2, a3] [] h
  | _ => False
set_option maxHeartbeats 4000000 in
theorem tJ6_getBytes_43 {x : CX} {E : Nat → Value} {Q : Rs → HS → Prop} (EN : EX x E) (G : Gd x cJ6_getBytes "java/lang/String" yJ6_getBytes 4 (Option.none : Option Jvm.ClassFile.FieldType) Q) (hF : x.1.2.2.2.frames = 8 ∧ x.1.2.2.2.locals = 200) (hC : x.2.2.2.2.2 = (fun _ => false)) (hxt : (∀ z ∈ x.2.2.1.2.1.exceptionTable.toList, False)) : Snd x 43 (bJ6_getBytes_43 E Q) := by
  unfold bJ6_getBytes_43
  exact s_return G dJ6_getBytes_43
set_option maxHeartbeats 4000000 in
theorem tJ6_getBytes_28 {x : CX} {E : Nat → Value} {Q : Rs → HS → Prop} (EN : EX x E) (G : Gd x cJ6_getBytes "java/lang/String" yJ6_getBytes 4 (Option.none : Option Jvm.ClassFile.FieldType) Q) (hF : x.1.2.2.2.frames = 8 ∧ x.1.2.2.2.locals = 200) (hC : x.2.2.2.2.2 = (fun _ => false)) (hxt : (∀ z ∈ x.2.2.1.2.1.exceptionTable.toList, False)) : Snd x 28 (bJ6_getBytes_28 E Q) := by
  unfold bJ6_getBytes_28
  refine s_aload_n rfl G.b dJ6_getBytes_28 ?_
  refine s_getf G.b G.ow G.kn (G.hts _ q1225) (fun _ h => h) fa_54 dJ6_getBytes_29 ?_
  refine s_iconst (by decide) G.b dJ6_getBytes_32 ?_
  refine s_aload_n rfl G.b dJ6_getBytes_33 ?_
  refine s_iload_n rfl G.b dJ6_getBytes_34 ?_
  refine s_aload_n rfl G.b dJ6_getBytes_35 ?_
  refine s_getf G.b G.ow G.kn (G.hts _ q1225) (fun _ h => h) fa_54 dJ6_getBytes_36 ?_
  refine s_alen G.b G.kn dJ6_getBytes_39 ?_
  refine s_callS G (mJ17_inflate EN) q1791 q1166 q105 q1167 nmk_39 (rm_of hF (Nat.le_of_ble_eq_true rfl) (Nat.le_of_ble_eq_true rfl)) dJ6_getBytes_40 ?_ (sx_out G (fun z hz => (hxt z hz).elim))
  exact (tJ6_getBytes_43 EN G hF hC hxt)
set_option maxHeartbeats 4000000 in
theorem tJ6_getBytes_0 {x : CX} {E : Nat → Value} {Q : Rs → HS → Prop} (EN : EX x E) (G : Gd x cJ6_getBytes "java/lang/String" yJ6_getBytes 4 (Option.none : Option Jvm.ClassFile.FieldType) Q) (hF : x.1.2.2.2.frames = 8 ∧ x.1.2.2.2.locals = 200) (hC : x.2.2.2.2.2 = (fun _ => false)) (hxt : (∀ z ∈ x.2.2.1.2.1.exceptionTable.toList, False)) : Snd x 0 (bJ6_getBytes_0 E Q) := by
  unfold bJ6_getBytes_0
  refine s_aload_n rfl G.b dJ6_getBytes_0 ?_
  refine s_callV G (mJ6_coder EN) q985 q986 (sel_cons (r := (RJ6, TJ6, 4)) (by decide) rfl q987 (sel_nil)) q86 q988 nmk_112 (rm_of hF (Nat.le_of_ble_eq_true rfl) (Nat.le_of_ble_eq_true rfl)) dJ6_getBytes_1 ?_ (sx_out G (fun z hz => (hxt z hz).elim))
  refine s_iload_n rfl G.b dJ6_getBytes_4 ?_
  refine s_icmpne (tgt := 28) G.b dJ6_getBytes_5 (by decide) (tJ6_getBytes_28 EN G hF hC hxt) ?_
  refine s_aload_n rfl G.b dJ6_getBytes_8 ?_
  refine s_getf G.b G.ow G.kn (G.hts _ q1225) (fun _ h => h) fa_54 dJ6_getBytes_9 ?_
  refine s_iconst (by decide) G.b dJ6_getBytes_12 ?_
  refine s_aload_n rfl G.b dJ6_getBytes_13 ?_
  refine s_iload_n rfl G.b dJ6_getBytes_14 ?_
  refine s_iload_n rfl G.b dJ6_getBytes_15 ?_
  refine s_ishl G.b dJ6_getBytes_16 ?_
  refine s_aload_n rfl G.b dJ6_getBytes_17 ?_
  refine s_getf G.b G.ow G.kn (G.hts _ q1225) (fun _ h => h) fa_54 dJ6_getBytes_18 ?_
  refine s_alen G.b G.kn dJ6_getBytes_21 ?_
  refine s_acopy EN G (rm_of hF (Nat.le_of_ble_eq_true rfl) (Nat.le_of_ble_eq_true rfl)) q1790 dJ6_getBytes_22 ?_
  exact s_goto (tgt := 43) G.b dJ6_getBytes_25 (by decide) (tJ6_getBytes_43 EN G hF hC hxt)
set_option maxHeartbeats 4000000 in
theorem mJ6_getBytes {l : Launch} {D : DE} {s0 : State} {E : Nat → Value} (EN : EV l D s0 E) : rMet l D s0 yJ6_getBytes (ws_ yJ6_getBytes cJ6_getBytes 4 (Option.none : Option Jvm.ClassFile.FieldType)) 8 200 (wJ6_getBytes E) := by
  refine body_met (fun _ => false) EN.kn (fun w h => h) (by decide +kernel) rfl (fun av h Q hw => ?_) ?_
  · unfold wJ6_getBytes at hw
    split at hw
    · exact Nat.le_of_ble_eq_true rfl
    · exact hw.elim
  · intro p e s m below meth c av h Q hxt G hw
    unfold wJ6_getBytes at hw
    split at hw
    · exact tJ6_getBytes_0 EN G ⟨rfl, rfl⟩ rfl hxt _ _ _ hw
    · exact hw.elim
/-! java/lang/AbstractStringBuilder.putStringAt(ILjava/lang/String;)V (J4_putStringAt) -/
theorem nmk_168 : nm_ok yJ4_inflateIfNeededFor 1 := ⟨by decide +kernel, by decide +kernel, by decide +kernel⟩
theorem nmk_169 : nm_ok yJ6_getBytes 3 := ⟨by decide +kernel, by decide +kernel, by decide +kernel⟩
def bJ4_putStringAt_0 (E : Nat → Value) (Q : Rs → HS → Prop) : Ct :=
  o_aload 0 <|
  o_aload 2 <|
  o_callV [18] 2 (wJ4_inflateIfNeededFor E) (x_out Q) <|
  o_aload 2 <|
  o_aload 0 <|
  o_getf [18] 0 <|
  o_iload 1 <|
  o_aload 0 <|
  o_getf [18] 1 <|
  o_callV [19] 4 (wJ6_getBytes E) (x_out Q) <|
  o_return Q
def wJ4_putStringAt (E : Nat → Value) : Wp := fun av h Q => match av with
  | [a0, a1, a2] => bJ4_putStringAt_0 E Q [a0, a1, a2] [] h
  | _ => False
set_option maxHeartbeats 4000000 in
theorem tJ4_putStringAt_0 {x : CX} {E : Nat → Value} {Q : Rs → HS → Prop} (EN : EX x E) (G : Gd x cJ4_putStringAt "java/lang/AbstractStringBuilder" yJ4_putStringAt 3 (Option.none : Option Jvm.ClassFile.FieldType) Q) (hF : x.1.2.2.2.frames = 9 ∧ x.1.2.2.2.locals = 223) (hC : x.2.2.2.2.2 = (fun _ => false)) (hxt : (∀ z ∈ x.2.2.1.2.1.exceptionTable.toList, False)) : Snd x 0 (bJ4_putStringAt_0 E Q) := by
  unfold bJ4_putStringAt_0
  refine s_aload_n rfl G.b dJ4_putStringAt_0 ?_
  refine s_aload_n rfl G.b dJ4_putStringAt_1 ?_
  refine s_callVP EN (by decide) G (mJ4_inflateIfNeededFor EN) q1781 q1782 q1783 q2359 q84 q1784 nmk_168 (rm_of hF (Nat.le_of_ble_eq_true rfl) (Nat.le_of_ble_eq_true rfl)) dJ4_putStringAt_2 ?_ (sx_out G (fun z hz => (hxt z hz).elim))
  refine s_aload_n rfl G.b dJ4_putStringAt_5 ?_
  refine s_aload_n rfl G.b dJ4_putStringAt_6 ?_
  refine s_getf G.b G.ow G.kn (G.hts _ q245) (fun _ h => h) fa_7 dJ4_putStringAt_7 ?_
  refine s_iload_n rfl G.b dJ4_putStringAt_10 ?_
  refine s_aload_n rfl G.b dJ4_putStringAt_11 ?_
  refine s_getf G.b G.ow G.kn (G.hts _ q246) (fun _ h => h) fa_8 dJ4_putStringAt_12 ?_
  refine s_callV G (mJ6_getBytes EN) q1786 q1787 (sel_cons (r := (RJ6, TJ6, 4)) (by decide) rfl q1788 (sel_nil)) q86 q1789 nmk_169 (rm_of hF (Nat.le_of_ble_eq_true rfl) (Nat.le_of_ble_eq_true rfl)) dJ4_putStringAt_15 ?_ (sx_out G (fun z hz => (hxt z hz).elim))
  exact s_return G dJ4_putStringAt_18
set_option maxHeartbeats 4000000 in
theorem mJ4_putStringAt {l : Launch} {D : DE} {s0 : State} {E : Nat → Value} (EN : EV l D s0 E) : rMet l D s0 yJ4_putStringAt (ws_ yJ4_putStringAt cJ4_putStringAt 3 (Option.none : Option Jvm.ClassFile.FieldType)) 9 223 (wJ4_putStringAt E) := by
  refine body_met (fun _ => false) EN.kn (fun w h => h) (by decide +kernel) rfl (fun av h Q hw => ?_) ?_
  · unfold wJ4_putStringAt at hw
    split at hw
    · exact Nat.le_of_ble_eq_true rfl
    · exact hw.elim
  · intro p e s m below meth c av h Q hxt G hw
    unfold wJ4_putStringAt at hw
    split at hw
    · exact tJ4_putStringAt_0 EN G ⟨rfl, rfl⟩ rfl hxt _ _ _ hw
    · exact hw.elim
/-! java/lang/AbstractStringBuilder.append(Ljava/lang/String;)Ljava/lang/AbstractStringBuilder; (J4_append_3) -/
theorem nmk_170 : nm_ok yJ4_putStringAt 2 := ⟨by decide +kernel, by decide +kernel, by decide +kernel⟩
theorem nmk_171 : nm_ok yJ4_appendNull 0 := ⟨by decide +kernel, by decide +kernel, by decide +kernel⟩
def bJ4_append_3_9 (E : Nat → Value) (Q : Rs → HS → Prop) : Ct :=
  o_aload 1 <|
  o_callV [19] 1 (wJ6_length E) (x_out Q) <|
  o_istore 2 <|
  o_aload 0 <|
  o_aload 0 <|
  o_getf [18] 3 <|
  o_iload 2 <|
  o_iadd <|
  o_callV [18] 2 (wJ4_ensureCapacityInternal E) (x_out Q) <|
  o_aload 0 <|
  o_aload 0 <|
  o_getf [18] 3 <|
  o_aload 1 <|
  o_callV [18] 3 (wJ4_putStringAt E) (x_out Q) <|
  o_aload 0 <|
  o_dup <|
  o_getf [18] 3 <|
  o_iload 2 <|
  o_iadd <|
  o_putf [18] 3 .int <|
  o_aload 0 <|
  o_areturn Q
def bJ4_append_3_0 (E : Nat → Value) (Q : Rs → HS → Prop) : Ct :=
  o_aload 1 <|
  o_ifnonnull (bJ4_append_3_9 E Q) <|
  o_aload 0 <|
  o_callV [18] 1 (wJ4_appendNull E) (x_out Q) <|
  o_areturn Q
def wJ4_append_3 (E : Nat → Value) : Wp := fun av h Q => match av with
  | [a0, a1] => bJ4_append_3_0 E Q [a0, a1, jk] [] h
  | _ => False
set_option maxHeartbeats 4000000 in
theorem tJ4_append_3_9 {x : CX} {E : Nat → Value} {Q : Rs → HS → Prop} (EN : EX x E) (G : Gd x cJ4_append_3 "java/lang/AbstractStringBuilder" yJ4_append_3 3 (Option.some (Jvm.ClassFile.FieldType.object "java/lang/AbstractStringBuilder")) Q) (hF : x.1.2.2.2.frames = 11 ∧ x.1.2.2.2.locals = 266) (hC : x.2.2.2.2.2 = (fun _ => false)) (hxt : (∀ z ∈ x.2.2.1.2.1.exceptionTable.toList, False)) : Snd x 9 (bJ4_append_3_9 E Q) := by
  unfold bJ4_append_3_9
  refine s_aload_n rfl G.b dJ4_append_3_9 ?_
  refine s_callV G (mJ6_length EN) q1776 q982 (sel_cons (r := (RJ6, TJ6, 4)) (by decide) rfl q2351 (sel_nil)) q86 q984 nmk_149 (rm_of hF (Nat.le_of_ble_eq_true rfl) (Nat.le_of_ble_eq_true rfl)) dJ4_append_3_10 ?_ (sx_out G (fun z hz => (hxt z hz).elim))
  refine s_istore_n rfl G.b (by rw [G.nl]; decide) (fun _ _ => by rw [hC]) dJ4_append_3_13 ?_
  refine s_aload_n rfl G.b dJ4_append_3_14 ?_
  refine s_aload_n rfl G.b dJ4_append_3_15 ?_
  refine s_getf G.b G.ow G.kn (G.hts _ q249) (fun _ h => h) fa_23 dJ4_append_3_16 ?_
  refine s_iload_n rfl G.b dJ4_append_3_19 ?_
  refine s_iadd G.b dJ4_append_3_20 ?_
  refine s_callVP EN (by decide) G (mJ4_ensureCapacityInternal EN) q1135 q1136 q1137 q2347 q84 q1138 nmk_46 (rm_of hF (Nat.le_of_ble_eq_true rfl) (Nat.le_of_ble_eq_true rfl)) dJ4_append_3_21 ?_ (sx_out G (fun z hz => (hxt z hz).elim))
  refine s_aload_n rfl G.b dJ4_append_3_24 ?_
  refine s_aload_n rfl G.b dJ4_append_3_25 ?_
  refine s_getf G.b G.ow G.kn (G.hts _ q249) (fun _ h => h) fa_23 dJ4_append_3_26 ?_
  refine s_aload_n rfl G.b dJ4_append_3_29 ?_
  refine s_callVP EN (by decide) G (mJ4_putStringAt EN) q1777 q1778 q1779 q2358 q84 q1780 nmk_170 (rm_of hF (Nat.le_of_ble_eq_true rfl) (Nat.le_of_ble_eq_true rfl)) dJ4_append_3_30 ?_ (sx_out G (fun z hz => (hxt z hz).elim))
  refine s_aload_n rfl G.b dJ4_append_3_33 ?_
  refine s_dup G.b dJ4_append_3_34 ?_
  refine s_getf G.b G.ow G.kn (G.hts _ q249) (fun _ h => h) fa_23 dJ4_append_3_35 ?_
  refine s_iload_n rfl G.b dJ4_append_3_38 ?_
  refine s_iadd G.b dJ4_append_3_39 ?_
  refine s_putf G.b G.ow G.kn (G.hts _ q249) (fun _ h => h) fa_23 (la_cons (r := (RJ5, TJ5, 4)) G.hts (by decide) rfl q256 (la_nil)) (by decide +kernel) dJ4_append_3_40 ?_
  refine s_aload_n rfl G.b dJ4_append_3_43 ?_
  exact s_areturn (Or.inl ⟨_, rfl⟩) G dJ4_append_3_44
set_option maxHeartbeats 4000000 in
theorem tJ4_append_3_0 {x : CX} {E : Nat → Value} {Q : Rs → HS → Prop} (EN : EX x E) (G : Gd x cJ4_append_3 "java/lang/AbstractStringBuilder" yJ4_append_3 3 (Option.some (Jvm.ClassFile.FieldType.object "java/lang/AbstractStringBuilder")) Q) (hF : x.1.2.2.2.frames = 11 ∧ x.1.2.2.2.locals = 266) (hC : x.2.2.2.2.2 = (fun _ => false)) (hxt : (∀ z ∈ x.2.2.1.2.1.exceptionTable.toList, False)) : Snd x 0 (bJ4_append_3_0 E Q) := by
  unfold bJ4_append_3_0
  refine s_aload_n rfl G.b dJ4_append_3_0 ?_
  refine s_ifnonnull (tgt := 9) G.b dJ4_append_3_1 (by decide) (tJ4_append_3_9 EN G hF hC hxt) ?_
  refine s_aload_n rfl G.b dJ4_append_3_4 ?_
  refine s_callVP EN (by decide) G (mJ4_appendNull EN) q1769 q1770 q1771 q2357 q84 q1772 nmk_171 (rm_of hF (Nat.le_of_ble_eq_true rfl) (Nat.le_of_ble_eq_true rfl)) dJ4_append_3_5 ?_ (sx_out G (fun z hz => (hxt z hz).elim))
  exact s_areturn (Or.inl ⟨_, rfl⟩) G dJ4_append_3_8
set_option maxHeartbeats 4000000 in
theorem mJ4_append_3 {l : Launch} {D : DE} {s0 : State} {E : Nat → Value} (EN : EV l D s0 E) : rMet l D s0 yJ4_append_3 (ws_ yJ4_append_3 cJ4_append_3 3 (Option.some (Jvm.ClassFile.FieldType.object "java/lang/AbstractStringBuilder"))) 11 266 (wJ4_append_3 E) := by
  refine body_met (fun _ => false) EN.kn (fun w h => h) (by decide +kernel) rfl (fun av h Q hw => ?_) ?_
  · unfold wJ4_append_3 at hw
    split at hw
    · exact Nat.le_of_ble_eq_true rfl
    · exact hw.elim
  · intro p e s m below meth c av h Q hxt G hw
    unfold wJ4_append_3 at hw
    split at hw
    · exact tJ4_append_3_0 EN G ⟨rfl, rfl⟩ rfl hxt _ _ _ hw
    · exact hw.elim
/-! java/lang/StringBuilder.append(Ljava/lang/String;)Ljava/lang/StringBuilder; (J5_append_3) -/
theorem nmk_172 : nm_ok yJ4_append_3 1 := ⟨by decide +kernel, by decide +kernel, by decide +kernel⟩
def bJ5_append_3_0 (E : Nat → Value) (Q : Rs → HS → Prop) : Ct :=
  o_aload 0 <|
  o_aload 1 <|
  o_callV [18] 2 (wJ4_append_3 E) (x_out Q) <|
  o_pop <|
  o_aload 0 <|
  o_areturn Q
def wJ5_append_3 (E : Nat → Value) : Wp := fun av h Q => match av with
  | [a0, a1] => bJ5_append_3_0 E Q [a0, a1] [] h
  | _ => False
set_option maxHeartbeats 4000000 in
theorem tJ5_append_3_0 {x : CX} {E : Nat → Value} {Q : Rs → HS → Prop} (EN : EX x E) (G : Gd x cJ5_append_3 "java/lang/StringBuilder" yJ5_append_3 2 (Option.some (Jvm.ClassFile.FieldType.object "java/lang/StringBuilder")) Q) (hF : x.1.2.2.2.frames = 12 ∧ x.1.2.2.2.locals = 288) (hC : x.2.2.2.2.2 = (fun _ => false)) (hxt : (∀ z ∈ x.2.2.1.2.1.exceptionTable.toList, False)) : Snd x 0 (bJ5_append_3_0 E Q) := by
  unfold bJ5_append_3_0
  refine s_aload_n rfl G.b dJ5_append_3_0 ?_
  refine s_aload_n rfl G.b dJ5_append_3_1 ?_
  refine s_callSU (by decide) G (mJ4_append_3 EN) q1766 q2356 q258 q1767 q84 q1768 (by decide) nmk_172 (rm_of hF (Nat.le_of_ble_eq_true rfl) (Nat.le_of_ble_eq_true rfl)) dJ5_append_3_2 ?_ (sx_out G (fun z hz => (hxt z hz).elim))
  refine s_pop G.b dJ5_append_3_5 ?_
  refine s_aload_n rfl G.b dJ5_append_3_6 ?_
  exact s_areturn (Or.inl ⟨_, rfl⟩) G dJ5_append_3_7
set_option maxHeartbeats 4000000 in
theorem mJ5_append_3 {l : Launch} {D : DE} {s0 : State} {E : Nat → Value} (EN : EV l D s0 E) : rMet l D s0 yJ5_append_3 (ws_ yJ5_append_3 cJ5_append_3 2 (Option.some (Jvm.ClassFile.FieldType.object "java/lang/StringBuilder"))) 12 288 (wJ5_append_3 E) := by
  refine body_met (fun _ => false) EN.kn (fun w h => h) (by decide +kernel) rfl (fun av h Q hw => ?_) ?_
  · unfold wJ5_append_3 at hw
    split at hw
    · exact Nat.le_of_ble_eq_true rfl
    · exact hw.elim
  · intro p e s m below meth c av h Q hxt G hw
    unfold wJ5_append_3 at hw
    split at hw
    · exact tJ5_append_3_0 EN G ⟨rfl, rfl⟩ rfl hxt _ _ _ hw
    · exact hw.elim
/-! java/lang/AbstractStringBuilder.getValue()[B (J4_getValue) -/
def bJ4_getValue_0 (E : Nat → Value) (Q : Rs → HS → Prop) : Ct :=
  o_aload 0 <|
  o_getf [18] 0 <|
  o_areturn Q
def wJ4_getValue (E : Nat → Value) : Wp := fun av h Q => match av with
  | [a0] => bJ4_getValue_0 E Q [a0] [] h
  | _ => False
set_option maxHeartbeats 4000000 in
theorem tJ4_getValue_0 {x : CX} {E : Nat → Value} {Q : Rs → HS → Prop} (EN : EX x E) (G : Gd x cJ4_getValue "java/lang/AbstractStringBuilder" yJ4_getValue 1 (Option.some (Jvm.ClassFile.FieldType.array Jvm.ClassFile.FieldType.byte)) Q) (hF : x.1.2.2.2.frames = 2 ∧ x.1.2.2.2.locals = 64) (hC : x.2.2.2.2.2 = (fun _ => false)) (hxt : (∀ z ∈ x.2.2.1.2.1.exceptionTable.toList, False)) : Snd x 0 (bJ4_getValue_0 E Q) := by
  unfold bJ4_getValue_0
  refine s_aload_n rfl G.b dJ4_getValue_0 ?_
  refine s_getf G.b G.ow G.kn (G.hts _ q245) (fun _ h => h) fa_7 dJ4_getValue_1 ?_
  exact s_areturn (Or.inr ⟨_, rfl⟩) G dJ4_getValue_4
set_option maxHeartbeats 4000000 in
theorem mJ4_getValue {l : Launch} {D : DE} {s0 : State} {E : Nat → Value} (EN : EV l D s0 E) : rMet l D s0 yJ4_getValue (ws_ yJ4_getValue cJ4_getValue 1 (Option.some (Jvm.ClassFile.FieldType.array Jvm.ClassFile.FieldType.byte))) 2 64 (wJ4_getValue E) := by
  refine body_met (fun _ => false) EN.kn (fun w h => h) (by decide +kernel) rfl (fun av h Q hw => ?_) ?_
  · unfold wJ4_getValue at hw
    split at hw
    · exact Nat.le_of_ble_eq_true rfl
    · exact hw.elim
  · intro p e s m below meth c av h Q hxt G hw
    unfold wJ4_getValue at hw
    split at hw
    · exact tJ4_getValue_0 EN G ⟨rfl, rfl⟩ rfl hxt _ _ _ hw
    · exact hw.elim
/-! java/lang/StringUTF16.coderFromArrayLen([BI)B (J7_coderFromArrayLen) -/
def bJ7_coderFromArrayLen_0 (E : Nat → Value) (Q : Rs → HS → Prop) : Ct :=
  o_iload 1 <|
  o_aload 0 <|
  o_alen <|
  o_isub <|
  o_push (.int 31) <|
  o_iushr <|
  o_i2b <|
  o_ireturn .byte Q
def wJ7_coderFromArrayLen (E : Nat → Value) : Wp := fun av h Q => match av with
  | [a0, a1] => bJ7_coderFromArrayLen_0 E Q [a0, a1] [] h
  | _ => False
set_option maxHeartbeats 4000000 in
theorem tJ7_coderFromArrayLen_0 {x : CX} {E : Nat → Value} {Q : Rs → HS → Prop} (EN : EX x E) (G : Gd x cJ7_coderFromArrayLen "java/lang/StringUTF16" yJ7_coderFromArrayLen 2 (Option.some Jvm.ClassFile.FieldType.byte) Q) (hF : x.1.2.2.2.frames = 2 ∧ x.1.2.2.2.locals = 64) (hC : x.2.2.2.2.2 = (fun _ => false)) (hxt : (∀ z ∈ x.2.2.1.2.1.exceptionTable.toList, False)) : Snd x 0 (bJ7_coderFromArrayLen_0 E Q) := by
  unfold bJ7_coderFromArrayLen_0
  refine s_iload_n rfl G.b dJ7_coderFromArrayLen_0 ?_
  refine s_aload_n rfl G.b dJ7_coderFromArrayLen_1 ?_
  refine s_alen G.b G.kn dJ7_coderFromArrayLen_2 ?_
  refine s_isub G.b dJ7_coderFromArrayLen_3 ?_
  refine s_bipush (by decide) G.b dJ7_coderFromArrayLen_4 ?_
  refine s_iushr G.b dJ7_coderFromArrayLen_6 ?_
  refine s_i2b G.b dJ7_coderFromArrayLen_7 ?_
  exact s_ireturn G dJ7_coderFromArrayLen_8
set_option maxHeartbeats 4000000 in
theorem mJ7_coderFromArrayLen {l : Launch} {D : DE} {s0 : State} {E : Nat → Value} (EN : EV l D s0 E) : rMet l D s0 yJ7_coderFromArrayLen (ws_ yJ7_coderFromArrayLen cJ7_coderFromArrayLen 2 (Option.some Jvm.ClassFile.FieldType.byte)) 2 64 (wJ7_coderFromArrayLen E) := by
  refine body_met (fun _ => false) EN.kn (fun w h => h) (by decide +kernel) rfl (fun av h Q hw => ?_) ?_
  · unfold wJ7_coderFromArrayLen at hw
    split at hw
    · exact Nat.le_of_ble_eq_true rfl
    · exact hw.elim
  · intro p e s m below meth c av h Q hxt G hw
    unfold wJ7_coderFromArrayLen at hw
    split at hw
    · exact tJ7_coderFromArrayLen_0 EN G ⟨rfl, rfl⟩ rfl hxt _ _ _ hw
    · exact hw.elim
/-! java/lang/StringUTF16.compress([BI[BII)I (J7_compress_2) -/
def bJ7_compress_2_53 (E : Nat → Value) (Q : Rs → HS → Prop) (X10 : Ct) : Ct :=
  o_iload 4 <|
  o_ireturn .int Q
def bJ7_compress_2_35 (E : Nat → Value) (Q : Rs → HS → Prop) (X10 : Ct) : Ct :=
  o_aload 2 <|
  o_iload 3 <|
  o_iload 6 <|
  o_i2b <|
  o_ast [(101, .boolean), (102, .byte)] <|
  o_iinc 1 1 <|
  o_iinc 3 1 <|
  o_iinc 5 1 <|
  X10
def bJ7_compress_2_10 (E : Nat → Value) (Q : Rs → HS → Prop) (X10 : Ct) : Ct :=
  o_iload 5 <|
  o_iload 4 <|
  o_icmpge (bJ7_compress_2_53 E Q X10) <|
  o_aload 0 <|
  o_iload 1 <|
  o_call 2 (wJ7_getChar E) (x_out Q) <|
  o_istore 6 <|
  o_iload 6 <|
  o_push (.int 255) <|
  o_icmple (bJ7_compress_2_35 E Q X10) <|
  o_iload 5 <|
  o_ireturn .int Q
def bJ7_compress_2_0 (E : Nat → Value) (Q : Rs → HS → Prop) (X10 : Ct) : Ct :=
  o_iload 1 <|
  o_iload 4 <|
  o_aload 0 <|
  o_call 3 (wJ7_checkBoundsOffCount E) (x_out Q) <|
  o_push (.int 0) <|
  o_istore 5 <|
  X10
def wJ7_compress_2 (E : Nat → Value) : Wp := fun av h Q => match av with
  | [a0, a1, a2, a3, a4] => ∀ X10 : Ct, (∀ ls st h, bJ7_compress_2_10 E Q X10 ls st h → X10 ls st h) → bJ7_compress_2_0 E Q X10 [a0, a1, a2, a3, a4, jk, jk] [] h
  | _ => False
set_option maxHeartbeats 4000000 in
theorem tJ7_compress_2_53 {x : CX} {E : Nat → Value} {Q : Rs → HS → Prop} {X10 : Ct} (EN : EX x E) (G : Gd x cJ7_compress_2 "java/lang/StringUTF16" yJ7_compress_2 7 (Option.some Jvm.ClassFile.FieldType.int) Q) (hF : x.1.2.2.2.frames = 5 ∧ x.1.2.2.2.locals = 131) (hC : x.2.2.2.2.2 = (fun _ => false)) (hxt : (∀ z ∈ x.2.2.1.2.1.exceptionTable.toList, False)) (h10 : Snd x 10 X10) : Snd x 53 (bJ7_compress_2_53 E Q X10) := by
  unfold bJ7_compress_2_53
  refine s_iload G.b dJ7_compress_2_53 ?_
  exact s_ireturn G dJ7_compress_2_55
set_option maxHeartbeats 4000000 in
theorem tJ7_compress_2_35 {x : CX} {E : Nat → Value} {Q : Rs → HS → Prop} {X10 : Ct} (EN : EX x E) (G : Gd x cJ7_compress_2 "java/lang/StringUTF16" yJ7_compress_2 7 (Option.some Jvm.ClassFile.FieldType.int) Q) (hF : x.1.2.2.2.frames = 5 ∧ x.1.2.2.2.locals = 131) (hC : x.2.2.2.2.2 = (fun _ => false)) (hxt : (∀ z ∈ x.2.2.1.2.1.exceptionTable.toList, False)) (h10 : Snd x 10 X10) : Snd x 35 (bJ7_compress_2_35 E Q X10) := by
  unfold bJ7_compress_2_35
  refine s_aload_n rfl G.b dJ7_compress_2_35 ?_
  refine s_iload_n rfl G.b dJ7_compress_2_36 ?_
  refine s_iload G.b dJ7_compress_2_37 ?_
  refine s_i2b G.b dJ7_compress_2_39 ?_
  refine s_bast G.b G.kn dJ7_compress_2_40 ?_
  refine s_iinc (by decide) G.b (by rw [G.nl]; decide) (fun _ _ => by rw [hC]) dJ7_compress_2_41 ?_
  refine s_iinc (by decide) G.b (by rw [G.nl]; decide) (fun _ _ => by rw [hC]) dJ7_compress_2_44 ?_
  refine s_iinc (by decide) G.b (by rw [G.nl]; decide) (fun _ _ => by rw [hC]) dJ7_compress_2_47 ?_
  exact s_goto (tgt := 10) G.b dJ7_compress_2_50 (by decide) h10
set_option maxHeartbeats 4000000 in
theorem tJ7_compress_2_10 {x : CX} {E : Nat → Value} {Q : Rs → HS → Prop} {X10 : Ct} (EN : EX x E) (G : Gd x cJ7_compress_2 "java/lang/StringUTF16" yJ7_compress_2 7 (Option.some Jvm.ClassFile.FieldType.int) Q) (hF : x.1.2.2.2.frames = 5 ∧ x.1.2.2.2.locals = 131) (hC : x.2.2.2.2.2 = (fun _ => false)) (hxt : (∀ z ∈ x.2.2.1.2.1.exceptionTable.toList, False)) (h10 : Snd x 10 X10) : Snd x 10 (bJ7_compress_2_10 E Q X10) := by
  unfold bJ7_compress_2_10
  refine s_iload G.b dJ7_compress_2_10 ?_
  refine s_iload G.b dJ7_compress_2_12 ?_
  refine s_icmpge (tgt := 53) G.b dJ7_compress_2_14 (by decide) (tJ7_compress_2_53 EN G hF hC hxt h10) ?_
  refine s_aload_n rfl G.b dJ7_compress_2_17 ?_
  refine s_iload_n rfl G.b dJ7_compress_2_18 ?_
  refine s_callS G (mJ7_getChar EN) q1083 q958 q87 q959 nmk_92 (rm_of hF (Nat.le_of_ble_eq_true rfl) (Nat.le_of_ble_eq_true rfl)) dJ7_compress_2_19 ?_ (sx_out G (fun z hz => (hxt z hz).elim))
  refine s_istore G.b (by rw [G.nl]; decide) (fun _ _ => by rw [hC]) dJ7_compress_2_22 ?_
  refine s_iload G.b dJ7_compress_2_24 ?_
  refine s_sipush (by decide) G.b dJ7_compress_2_26 ?_
  refine s_icmple (tgt := 35) G.b dJ7_compress_2_29 (by decide) (tJ7_compress_2_35 EN G hF hC hxt h10) ?_
  refine s_iload G.b dJ7_compress_2_32 ?_
  exact s_ireturn G dJ7_compress_2_34
set_option maxHeartbeats 4000000 in
theorem tJ7_compress_2_0 {x : CX} {E : Nat → Value} {Q : Rs → HS → Prop} {X10 : Ct} (EN : EX x E) (G : Gd x cJ7_compress_2 "java/lang/StringUTF16" yJ7_compress_2 7 (Option.some Jvm.ClassFile.FieldType.int) Q) (hF : x.1.2.2.2.frames = 5 ∧ x.1.2.2.2.locals = 131) (hC : x.2.2.2.2.2 = (fun _ => false)) (hxt : (∀ z ∈ x.2.2.1.2.1.exceptionTable.toList, False)) (h10 : Snd x 10 X10) : Snd x 0 (bJ7_compress_2_0 E Q X10) := by
  unfold bJ7_compress_2_0
  refine s_iload_n rfl G.b dJ7_compress_2_0 ?_
  refine s_iload G.b dJ7_compress_2_1 ?_
  refine s_aload_n rfl G.b dJ7_compress_2_3 ?_
  refine s_callS G (mJ7_checkBoundsOffCount EN) q1171 q1172 q87 q1173 nmk_37 (rm_of hF (Nat.le_of_ble_eq_true rfl) (Nat.le_of_ble_eq_true rfl)) dJ7_compress_2_4 ?_ (sx_out G (fun z hz => (hxt z hz).elim))
  refine s_iconst (by decide) G.b dJ7_compress_2_7 ?_
  refine s_istore G.b (by rw [G.nl]; decide) (fun _ _ => by rw [hC]) dJ7_compress_2_8 ?_
  exact h10
set_option maxHeartbeats 4000000 in
theorem mJ7_compress_2 {l : Launch} {D : DE} {s0 : State} {E : Nat → Value} (EN : EV l D s0 E) : rMet l D s0 yJ7_compress_2 (ws_ yJ7_compress_2 cJ7_compress_2 7 (Option.some Jvm.ClassFile.FieldType.int)) 5 131 (wJ7_compress_2 E) := by
  refine body_met (fun _ => false) EN.kn (fun w h => h) (by decide +kernel) rfl (fun av h Q hw => ?_) ?_
  · unfold wJ7_compress_2 at hw
    split at hw
    · exact Nat.le_of_ble_eq_true rfl
    · exact hw.elim
  · intro p e s m below meth c av h Q hxt G hw
    unfold wJ7_compress_2 at hw
    split at hw
    · exact tJ7_compress_2_0 EN G ⟨rfl, rfl⟩ rfl hxt (fun _ _ _ h => h) _ _ _ (hw (AW _ 10) (tJ7_compress_2_10 EN G ⟨rfl, rfl⟩ rfl hxt (fun _ _ _ h => h)))
    · exact hw.elim
/-! java/util/Arrays.checkLength(II)V (J12_checkLength) -/
def bJ12_checkLength_37 (E : Nat → Value) (Q : Rs → HS → Prop) : Ct :=
  o_return Q
def bJ12_checkLength_0 (E : Nat → Value) (Q : Rs → HS → Prop) : Ct :=
  o_iload 1 <|
  o_iload 0 <|
  o_icmpge (bJ12_checkLength_37 E Q) <|
  o_no
def wJ12_checkLength (E : Nat → Value) : Wp := fun av h Q => match av with
  | [a0, a1] => bJ12_checkLength_0 E Q [a0, a1] [] h
  | _ => False
set_option maxHeartbeats 4000000 in
theorem tJ12_checkLength_37 {x : CX} {E : Nat → Value} {Q : Rs → HS → Prop} (EN : EX x E) (G : Gd x cJ12_checkLength "java/util/Arrays" yJ12_checkLength 2 (Option.none : Option Jvm.ClassFile.FieldType) Q) (hF : x.1.2.2.2.frames = 2 ∧ x.1.2.2.2.locals = 64) (hC : x.2.2.2.2.2 = (fun _ => false)) (hxt : (∀ z ∈ x.2.2.1.2.1.exceptionTable.toList, False)) : Snd x 37 (bJ12_checkLength_37 E Q) := by
  unfold bJ12_checkLength_37
  exact s_return G dJ12_checkLength_37
set_option maxHeartbeats 4000000 in
theorem tJ12_checkLength_0 {x : CX} {E : Nat → Value} {Q : Rs → HS → Prop} (EN : EX x E) (G : Gd x cJ12_checkLength "java/util/Arrays" yJ12_checkLength 2 (Option.none : Option Jvm.ClassFile.FieldType) Q) (hF : x.1.2.2.2.frames = 2 ∧ x.1.2.2.2.locals = 64) (hC : x.2.2.2.2.2 = (fun _ => false)) (hxt : (∀ z ∈ x.2.2.1.2.1.exceptionTable.toList, False)) : Snd x 0 (bJ12_checkLength_0 E Q) := by
  unfold bJ12_checkLength_0
  refine s_iload_n rfl G.b dJ12_checkLength_0 ?_
  refine s_iload_n rfl G.b dJ12_checkLength_1 ?_
  refine s_icmpge (tgt := 37) G.b dJ12_checkLength_2 (by decide) (tJ12_checkLength_37 EN G hF hC hxt) ?_
  exact s_no
set_option maxHeartbeats 4000000 in
theorem mJ12_checkLength {l : Launch} {D : DE} {s0 : State} {E : Nat → Value} (EN : EV l D s0 E) : rMet l D s0 yJ12_checkLength (ws_ yJ12_checkLength cJ12_checkLength 2 (Option.none : Option Jvm.ClassFile.FieldType)) 2 64 (wJ12_checkLength E) := by
  refine body_met (fun _ => false) EN.kn (fun w h => h) (by decide +kernel) rfl (fun av h Q hw => ?_) ?_
  · unfold wJ12_checkLength at hw
    split at hw
    · exact Nat.le_of_ble_eq_true rfl
    · exact hw.elim
  · intro p e s m below meth c av h Q hxt G hw
    unfold wJ12_checkLength at hw
    split at hw
    · exact tJ12_checkLength_0 EN G ⟨rfl, rfl⟩ rfl hxt _ _ _ hw
    · exact hw.elim
/-! java/util/Arrays.copyOfRangeByte([BII)[B (J12_copyOfRangeByte) -/
theorem nmk_173 : nm_ok yJ12_checkLength 2 := ⟨by decide +kernel, by decide +kernel, by decide +kernel⟩
def bJ12_copyOfRangeByte_0 (E : Nat → Value) (Q : Rs → HS → Prop) : Ct :=
  o_iload 1 <|
  o_iload 2 <|
  o_call 2 (wJ12_checkLength E) (x_out Q) <|
  o_iload 2 <|
  o_iload 1 <|
  o_isub <|
  o_istore 3 <|
  o_iload 3 <|
  o_newa 102 (.int 0) <|
  o_astore 4 <|
  o_aload 0 <|
  o_iload 1 <|
  o_aload 4 <|
  o_push (.int 0) <|
  o_aload 0 <|
  o_alen <|
  o_iload 1 <|
  o_isub <|
  o_iload 3 <|
  o_imin <|
  o_acopy <|
  o_aload 4 <|
  o_areturn Q
def wJ12_copyOfRangeByte (E : Nat → Value) : Wp := fun av h Q => match av with
  | [a0, a1, a2] => bJ12_copyOfRangeByte_0 E Q [a0, a1, a2, jk, jk] [] h
  | _ => False
set_option maxHeartbeats 4000000 in
theorem tJ12_copyOfRangeByte_0 {x : CX} {E : Nat → Value} {Q : Rs → HS → Prop} (EN : EX x E) (G : Gd x cJ12_copyOfRangeByte "java/util/Arrays" yJ12_copyOfRangeByte 5 (Option.some (Jvm.ClassFile.FieldType.array Jvm.ClassFile.FieldType.byte)) Q) (hF : x.1.2.2.2.frames = 8 ∧ x.1.2.2.2.locals = 200) (hC : x.2.2.2.2.2 = (fun _ => false)) (hxt : (∀ z ∈ x.2.2.1.2.1.exceptionTable.toList, False)) : Snd x 0 (bJ12_copyOfRangeByte_0 E Q) := by
  unfold bJ12_copyOfRangeByte_0
  refine s_iload_n rfl G.b dJ12_copyOfRangeByte_0 ?_
  refine s_iload_n rfl G.b dJ12_copyOfRangeByte_1 ?_
  refine s_callS G (mJ12_checkLength EN) q1212 q1213 q94 q1214 nmk_173 (rm_of hF (Nat.le_of_ble_eq_true rfl) (Nat.le_of_ble_eq_true rfl)) dJ12_copyOfRangeByte_2 ?_ (sx_out G (fun z hz => (hxt z hz).elim))
  refine s_iload_n rfl G.b dJ12_copyOfRangeByte_5 ?_
  refine s_iload_n rfl G.b dJ12_copyOfRangeByte_6 ?_
  refine s_isub G.b dJ12_copyOfRangeByte_7 ?_
  refine s_istore_n rfl G.b (by rw [G.nl]; decide) (fun _ _ => by rw [hC]) dJ12_copyOfRangeByte_8 ?_
  refine s_iload_n rfl G.b dJ12_copyOfRangeByte_9 ?_
  refine s_newa (atype := .byte) G.b G.kn G.gr G.hts q259 (by decide) (by decide) rfl (fun _ h => by cases h) (by decide) rfl dJ12_copyOfRangeByte_10 ?_
  refine s_astore G.b (by rw [G.nl]; decide) (fun _ _ => by rw [hC]) dJ12_copyOfRangeByte_12 ?_
  refine s_aload_n rfl G.b dJ12_copyOfRangeByte_14 ?_
  refine s_iload_n rfl G.b dJ12_copyOfRangeByte_15 ?_
  refine s_aload G.b dJ12_copyOfRangeByte_16 ?_
  refine s_iconst (by decide) G.b dJ12_copyOfRangeByte_18 ?_
  refine s_aload_n rfl G.b dJ12_copyOfRangeByte_19 ?_
  refine s_alen G.b G.kn dJ12_copyOfRangeByte_20 ?_
  refine s_iload_n rfl G.b dJ12_copyOfRangeByte_21 ?_
  refine s_isub G.b dJ12_copyOfRangeByte_22 ?_
  refine s_iload_n rfl G.b dJ12_copyOfRangeByte_23 ?_
  refine s_imin G hF ⟨Nat.le_of_ble_eq_true rfl, Nat.le_of_ble_eq_true rfl⟩ q463 q464 q93 q465 dJ12_copyOfRangeByte_24 ?_
  refine s_acopy EN G (rm_of hF (Nat.le_of_ble_eq_true rfl) (Nat.le_of_ble_eq_true rfl)) q466 dJ12_copyOfRangeByte_27 ?_
  refine s_aload G.b dJ12_copyOfRangeByte_30 ?_
  exact s_areturn (Or.inr ⟨_, rfl⟩) G dJ12_copyOfRangeByte_32
set_option maxHeartbeats 4000000 in
theorem mJ12_copyOfRangeByte {l : Launch} {D : DE} {s0 : State} {E : Nat → Value} (EN : EV l D s0 E) : rMet l D s0 yJ12_copyOfRangeByte (ws_ yJ12_copyOfRangeByte cJ12_copyOfRangeByte 5 (Option.some (Jvm.ClassFile.FieldType.array Jvm.ClassFile.FieldType.byte))) 8 200 (wJ12_copyOfRangeByte E) := by
  refine body_met (fun _ => false) EN.kn (fun w h => h) (by decide +kernel) rfl (fun av h Q hw => ?_) ?_
  · unfold wJ12_copyOfRangeByte at hw
    split at hw
    · exact Nat.le_of_ble_eq_true rfl
    · exact hw.elim
  · intro p e s m below meth c av h Q hxt G hw
    unfold wJ12_copyOfRangeByte at hw
    split at hw
    · exact tJ12_copyOfRangeByte_0 EN G ⟨rfl, rfl⟩ rfl hxt _ _ _ hw
    · exact hw.elim
/-! java/util/Arrays.copyOfRange([BII)[B (J12_copyOfRange) -/
theorem nmk_174 : nm_ok yJ12_copyOfRangeByte 3 := ⟨by decide +kernel, by decide +kernel, by decide +kernel⟩
def bJ12_copyOfRange_17 (E : Nat → Value) (Q : Rs → HS → Prop) : Ct :=
  o_aload 0 <|
  o_clone 102 .byte <|
  o_cast [102] <|
  o_areturn Q
def bJ12_copyOfRange_10 (E : Nat → Value) (Q : Rs → HS → Prop) : Ct :=
  o_aload 0 <|
  o_iload 1 <|
  o_iload 2 <|
  o_call 3 (wJ12_copyOfRangeByte E) (x_out Q) <|
  o_areturn Q
def bJ12_copyOfRange_0 (E : Nat → Value) (Q : Rs → HS → Prop) : Ct :=
  o_iload 1 <|
  o_ifne (bJ12_copyOfRange_10 E Q) <|
  o_iload 2 <|
  o_aload 0 <|
  o_alen <|
  o_icmpeq (bJ12_copyOfRange_17 E Q) <|
  (bJ12_copyOfRange_10 E Q)
def wJ12_copyOfRange (E : Nat → Value) : Wp := fun av h Q => match av with
  | [a0, a1, a2] => bJ12_copyOfRange_0 E Q [a0, a1, a2] [] h
  | _ => False
set_option maxHeartbeats 4000000 in
theorem tJ12_copyOfRange_17 {x : CX} {E : Nat → Value} {Q : Rs → HS → Prop} (EN : EX x E) (G : Gd x cJ12_copyOfRange "java/util/Arrays" yJ12_copyOfRange 3 (Option.some (Jvm.ClassFile.FieldType.array Jvm.ClassFile.FieldType.byte)) Q) (hF : x.1.2.2.2.frames = 9 ∧ x.1.2.2.2.locals = 224) (hC : x.2.2.2.2.2 = (fun _ => false)) (hxt : (∀ z ∈ x.2.2.1.2.1.exceptionTable.toList, False)) : Snd x 17 (bJ12_copyOfRange_17 E Q) := by
  unfold bJ12_copyOfRange_17
  refine s_aload_n rfl G.b dJ12_copyOfRange_17 ?_
  refine s_clone102 EN G (rm_of hF (Nat.le_of_ble_eq_true rfl) (Nat.le_of_ble_eq_true rfl)) q1148 dJ12_copyOfRange_18 ?_
  refine s_cast G.b G.ow G.kn G.hts q1152 ct_2 dJ12_copyOfRange_21 ?_
  exact s_areturn (Or.inr ⟨_, rfl⟩) G dJ12_copyOfRange_24
set_option maxHeartbeats 4000000 in
theorem tJ12_copyOfRange_10 {x : CX} {E : Nat → Value} {Q : Rs → HS → Prop} (EN : EX x E) (G : Gd x cJ12_copyOfRange "java/util/Arrays" yJ12_copyOfRange 3 (Option.some (Jvm.ClassFile.FieldType.array Jvm.ClassFile.FieldType.byte)) Q) (hF : x.1.2.2.2.frames = 9 ∧ x.1.2.2.2.locals = 224) (hC : x.2.2.2.2.2 = (fun _ => false)) (hxt : (∀ z ∈ x.2.2.1.2.1.exceptionTable.toList, False)) : Snd x 10 (bJ12_copyOfRange_10 E Q) := by
  unfold bJ12_copyOfRange_10
  refine s_aload_n rfl G.b dJ12_copyOfRange_10 ?_
  refine s_iload_n rfl G.b dJ12_copyOfRange_11 ?_
  refine s_iload_n rfl G.b dJ12_copyOfRange_12 ?_
  refine s_callS G (mJ12_copyOfRangeByte EN) q1209 q1210 q94 q1211 nmk_174 (rm_of hF (Nat.le_of_ble_eq_true rfl) (Nat.le_of_ble_eq_true rfl)) dJ12_copyOfRange_13 ?_ (sx_out G (fun z hz => (hxt z hz).elim))
  exact s_areturn (Or.inr ⟨_, rfl⟩) G dJ12_copyOfRange_16
set_option maxHeartbeats 4000000 in
theorem tJ12_copyOfRange_0 {x : CX} {E : Nat → Value} {Q : Rs → HS → Prop} (EN : EX x E) (G : Gd x cJ12_copyOfRange "java/util/Arrays" yJ12_copyOfRange 3 (Option.some (Jvm.ClassFile.FieldType.array Jvm.ClassFile.FieldType.byte)) Q) (hF : x.1.2.2.2.frames = 9 ∧ x.1.2.2.2.locals = 224) (hC : x.2.2.2.2.2 = (fun _ => false)) (hxt : (∀ z ∈ x.2.2.1.2.1.exceptionTable.toList, False)) : Snd x 0 (bJ12_copyOfRange_0 E Q) := by
  unfold bJ12_copyOfRange_0
  refine s_iload_n rfl G.b dJ12_copyOfRange_0 ?_
  refine s_ifne (tgt := 10) G.b dJ12_copyOfRange_1 (by decide) (tJ12_copyOfRange_10 EN G hF hC hxt) ?_
  refine s_iload_n rfl G.b dJ12_copyOfRange_4 ?_
  refine s_aload_n rfl G.b dJ12_copyOfRange_5 ?_
  refine s_alen G.b G.kn dJ12_copyOfRange_6 ?_
  refine s_icmpeq (tgt := 17) G.b dJ12_copyOfRange_7 (by decide) (tJ12_copyOfRange_17 EN G hF hC hxt) ?_
  exact (tJ12_copyOfRange_10 EN G hF hC hxt)
set_option maxHeartbeats 4000000 in
theorem mJ12_copyOfRange {l : Launch} {D : DE} {s0 : State} {E : Nat → Value} (EN : EV l D s0 E) : rMet l D s0 yJ12_copyOfRange (ws_ yJ12_copyOfRange cJ12_copyOfRange 3 (Option.some (Jvm.ClassFile.FieldType.array Jvm.ClassFile.FieldType.byte))) 9 224 (wJ12_copyOfRange E) := by
  refine body_met (fun _ => false) EN.kn (fun w h => h) (by decide +kernel) rfl (fun av h Q hw => ?_) ?_
  · unfold wJ12_copyOfRange at hw
    split at hw
    · exact Nat.le_of_ble_eq_true rfl
    · exact hw.elim
  · intro p e s m below meth c av h Q hxt G hw
    unfold wJ12_copyOfRange at hw
    split at hw
    · exact tJ12_copyOfRange_0 EN G ⟨rfl, rfl⟩ rfl hxt _ _ _ hw
    · exact hw.elim
/-! java/lang/StringUTF16.compress([BII)[B (J7_compress) -/
theorem nmk_175 : nm_ok yJ7_compress_2 5 := ⟨by decide +kernel, by decide +kernel, by decide +kernel⟩
theorem nmk_176 : nm_ok yJ12_copyOfRange 3 := ⟨by decide +kernel, by decide +kernel, by decide +kernel⟩
def bJ7_compress_64 (E : Nat → Value) (Q : Rs → HS → Prop) : Ct :=
  o_aload 3 <|
  o_areturn Q
def bJ7_compress_61 (E : Nat → Value) (Q : Rs → HS → Prop) : Ct :=
  o_aload 5 <|
  o_areturn Q
def bJ7_compress_0 (E : Nat → Value) (Q : Rs → HS → Prop) : Ct :=
  o_iload 2 <|
  o_newa 102 (.int 0) <|
  o_astore 3 <|
  o_aload 0 <|
  o_iload 1 <|
  o_aload 3 <|
  o_push (.int 0) <|
  o_iload 2 <|
  o_call 5 (wJ7_compress_2 E) (x_out Q) <|
  o_istore 4 <|
  o_iload 4 <|
  o_iload 2 <|
  o_icmpeq (bJ7_compress_64 E Q) <|
  o_aload 0 <|
  o_iload 1 <|
  o_push (.int 1) <|
  o_ishl <|
  o_iload 1 <|
  o_iload 2 <|
  o_iadd <|
  o_call 1 (wJ7_newBytesLength E) (x_out Q) <|
  o_call 3 (wJ12_copyOfRange E) (x_out Q) <|
  o_astore 5 <|
  o_aload 5 <|
  o_iload 4 <|
  o_call 2 (wJ7_getChar E) (x_out Q) <|
  o_push (.int 255) <|
  o_icmpgt (bJ7_compress_61 E Q) <|
  o_aload 5 <|
  o_push (.int 0) <|
  o_aload 3 <|
  o_push (.int 0) <|
  o_iload 2 <|
  o_call 5 (wJ7_compress_2 E) (x_out Q) <|
  o_iload 2 <|
  o_icmpeq (bJ7_compress_64 E Q) <|
  (bJ7_compress_61 E Q)
def wJ7_compress (E : Nat → Value) : Wp := fun av h Q => match av with
  | [a0, a1, a2] => bJ7_compress_0 E Q [a0, a1, a2, jk, jk, jk] [] h
  | _ => False
set_option maxHeartbeats 4000000 in
theorem tJ7_compress_64 {x : CX} {E : Nat → Value} {Q : Rs → HS → Prop} (EN : EX x E) (G : Gd x cJ7_compress "java/lang/StringUTF16" yJ7_compress 6 (Option.some (Jvm.ClassFile.FieldType.array Jvm.ClassFile.FieldType.byte)) Q) (hF : x.1.2.2.2.frames = 10 ∧ x.1.2.2.2.locals = 246) (hC : x.2.2.2.2.2 = (fun _ => false)) (hxt : (∀ z ∈ x.2.2.1.2.1.exceptionTable.toList, False)) : Snd x 64 (bJ7_compress_64 E Q) := by
  unfold bJ7_compress_64
  refine s_aload_n rfl G.b dJ7_compress_64 ?_
  exact s_areturn (Or.inr ⟨_, rfl⟩) G dJ7_compress_65
set_option maxHeartbeats 4000000 in
theorem tJ7_compress_61 {x : CX} {E : Nat → Value} {Q : Rs → HS → Prop} (EN : EX x E) (G : Gd x cJ7_compress "java/lang/StringUTF16" yJ7_compress 6 (Option.some (Jvm.ClassFile.FieldType.array Jvm.ClassFile.FieldType.byte)) Q) (hF : x.1.2.2.2.frames = 10 ∧ x.1.2.2.2.locals = 246) (hC : x.2.2.2.2.2 = (fun _ => false)) (hxt : (∀ z ∈ x.2.2.1.2.1.exceptionTable.toList, False)) : Snd x 61 (bJ7_compress_61 E Q) := by
  unfold bJ7_compress_61
  refine s_aload G.b dJ7_compress_61 ?_
  exact s_areturn (Or.inr ⟨_, rfl⟩) G dJ7_compress_63
set_option maxHeartbeats 4000000 in
theorem tJ7_compress_0 {x : CX} {E : Nat → Value} {Q : Rs → HS → Prop} (EN : EX x E) (G : Gd x cJ7_compress "java/lang/StringUTF16" yJ7_compress 6 (Option.some (Jvm.ClassFile.FieldType.array Jvm.ClassFile.FieldType.byte)) Q) (hF : x.1.2.2.2.frames = 10 ∧ x.1.2.2.2.locals = 246) (hC : x.2.2.2.2.2 = (fun _ => false)) (hxt : (∀ z ∈ x.2.2.1.2.1.exceptionTable.toList, False)) : Snd x 0 (bJ7_compress_0 E Q) := by
  unfold bJ7_compress_0
  refine s_iload_n rfl G.b dJ7_compress_0 ?_
  refine s_newa (atype := .byte) G.b G.kn G.gr G.hts q259 (by decide) (by decide) rfl (fun _ h => by cases h) (by decide) rfl dJ7_compress_1 ?_
  refine s_astore_n rfl G.b (by rw [G.nl]; decide) (fun _ _ => by rw [hC]) dJ7_compress_3 ?_
  refine s_aload_n rfl G.b dJ7_compress_4 ?_
  refine s_iload_n rfl G.b dJ7_compress_5 ?_
  refine s_aload_n rfl G.b dJ7_compress_6 ?_
  refine s_iconst (by decide) G.b dJ7_compress_7 ?_
  refine s_iload_n rfl G.b dJ7_compress_8 ?_
  refine s_callS G (mJ7_compress_2 EN) q1218 q1219 q87 q1220 nmk_175 (rm_of hF (Nat.le_of_ble_eq_true rfl) (Nat.le_of_ble_eq_true rfl)) dJ7_compress_9 ?_ (sx_out G (fun z hz => (hxt z hz).elim))
  refine s_istore G.b (by rw [G.nl]; decide) (fun _ _ => by rw [hC]) dJ7_compress_12 ?_
  refine s_iload G.b dJ7_compress_14 ?_
  refine s_iload_n rfl G.b dJ7_compress_16 ?_
  refine s_icmpeq (tgt := 64) G.b dJ7_compress_17 (by decide) (tJ7_compress_64 EN G hF hC hxt) ?_
  refine s_aload_n rfl G.b dJ7_compress_20 ?_
  refine s_iload_n rfl G.b dJ7_compress_21 ?_
  refine s_iconst (by decide) G.b dJ7_compress_22 ?_
  refine s_ishl G.b dJ7_compress_23 ?_
  refine s_iload_n rfl G.b dJ7_compress_24 ?_
  refine s_iload_n rfl G.b dJ7_compress_25 ?_
  refine s_iadd G.b dJ7_compress_26 ?_
  refine s_callS G (mJ7_newBytesLength EN) q241 q242 q87 q243 nmk_5 (rm_of hF (Nat.le_of_ble_eq_true rfl) (Nat.le_of_ble_eq_true rfl)) dJ7_compress_27 ?_ (sx_out G (fun z hz => (hxt z hz).elim))
  refine s_callS G (mJ12_copyOfRange EN) q1221 q1207 q94 q1208 nmk_176 (rm_of hF (Nat.le_of_ble_eq_true rfl) (Nat.le_of_ble_eq_true rfl)) dJ7_compress_30 ?_ (sx_out G (fun z hz => (hxt z hz).elim))
  refine s_astore G.b (by rw [G.nl]; decide) (fun _ _ => by rw [hC]) dJ7_compress_33 ?_
  refine s_aload G.b dJ7_compress_35 ?_
  refine s_iload G.b dJ7_compress_37 ?_
  refine s_callS G (mJ7_getChar EN) q1083 q958 q87 q959 nmk_92 (rm_of hF (Nat.le_of_ble_eq_true rfl) (Nat.le_of_ble_eq_true rfl)) dJ7_compress_39 ?_ (sx_out G (fun z hz => (hxt z hz).elim))
  refine s_sipush (by decide) G.b dJ7_compress_42 ?_
  refine s_icmpgt (tgt := 61) G.b dJ7_compress_45 (by decide) (tJ7_compress_61 EN G hF hC hxt) ?_
  refine s_aload G.b dJ7_compress_48 ?_
  refine s_iconst (by decide) G.b dJ7_compress_50 ?_
  refine s_aload_n rfl G.b dJ7_compress_51 ?_
  refine s_iconst (by decide) G.b dJ7_compress_52 ?_
  refine s_iload_n rfl G.b dJ7_compress_53 ?_
  refine s_callS G (mJ7_compress_2 EN) q1218 q1219 q87 q1220 nmk_175 (rm_of hF (Nat.le_of_ble_eq_true rfl) (Nat.le_of_ble_eq_true rfl)) dJ7_compress_54 ?_ (sx_out G (fun z hz => (hxt z hz).elim))
  refine s_iload_n rfl G.b dJ7_compress_57 ?_
  refine s_icmpeq (tgt := 64) G.b dJ7_compress_58 (by decide) (tJ7_compress_64 EN G hF hC hxt) ?_
  exact (tJ7_compress_61 EN G hF hC hxt)
set_option maxHeartbeats 4000000 in
theorem mJ7_compress {l : Launch} {D : DE} {s0 : State} {E : Nat → Value} (EN : EV l D s0 E) : rMet l D s0 yJ7_compress (ws_ yJ7_compress cJ7_compress 6 (Option.some (Jvm.ClassFile.FieldType.array Jvm.ClassFile.FieldType.byte))) 10 246 (wJ7_compress E) := by
  refine body_met (fun _ => false) EN.kn (fun w h => h) (by decide +kernel) rfl (fun av h Q hw => ?_) ?_
  · unfold wJ7_compress at hw
    split at hw
    · exact Nat.le_of_ble_eq_true rfl
    · exact hw.elim
  · intro p e s m below meth c av h Q hxt G hw
    unfold wJ7_compress at hw
    split at hw
    · exact tJ7_compress_0 EN G ⟨rfl, rfl⟩ rfl hxt _ _ _ hw
    · exact hw.elim
/-! java/lang/String.<init>(Ljava/lang/AbstractStringBuilder;Ljava/lang/Void;)V (J6_init_2) -/
theorem nmk_177 : nm_ok yJ7_compress 3 := ⟨by decide +kernel, by decide +kernel, by decide +kernel⟩
theorem nmk_178 : nm_ok yJ7_coderFromArrayLen 2 := ⟨by decide +kernel, by decide +kernel, by decide +kernel⟩
theorem nmk_179 : nm_ok yJ4_getValue 0 := ⟨by decide +kernel, by decide +kernel, by decide +kernel⟩
def bJ6_init_2_97 (E : Nat → Value) (Q : Rs → HS → Prop) : Ct :=
  o_return Q
def bJ6_init_2_79 (E : Nat → Value) (Q : Rs → HS → Prop) : Ct :=
  o_aload 0 <|
  o_push (.int 1) <|
  o_putf [19] 1 .byte <|
  o_aload 0 <|
  o_aload 3 <|
  o_push (.int 0) <|
  o_iload 4 <|
  o_push (.int 1) <|
  o_ishl <|
  o_call 3 (wJ12_copyOfRange E) (x_out Q) <|
  o_putf [19] 0 (.array .byte) <|
  (bJ6_init_2_97 E Q)
def bJ6_init_2_41 (E : Nat → Value) (Q : Rs → HS → Prop) : Ct :=
  o_push (E 8) <|
  o_ifeq (bJ6_init_2_79 E Q) <|
  o_aload 1 <|
  o_getf [18] 2 <|
  o_ifeq (bJ6_init_2_79 E Q) <|
  o_aload 0 <|
  o_aload 3 <|
  o_push (.int 0) <|
  o_iload 4 <|
  o_call 3 (wJ7_compress E) (x_out Q) <|
  o_putf [19] 0 (.array .byte) <|
  o_aload 0 <|
  o_aload 0 <|
  o_getf [19] 0 <|
  o_iload 4 <|
  o_call 2 (wJ7_coderFromArrayLen E) (x_out Q) <|
  o_putf [19] 1 .byte <|
  o_return Q
def bJ6_init_2_0 (E : Nat → Value) (Q : Rs → HS → Prop) : Ct :=
  o_aload 0 <|
  o_objInit <|
  o_aload 1 <|
  o_callV [18] 1 (wJ4_getValue E) (x_out Q) <|
  o_astore 3 <|
  o_aload 1 <|
  o_callV [18] 1 (wJ5_length E) (x_out Q) <|
  o_istore 4 <|
  o_aload 1 <|
  o_callV [18] 1 (wJ4_isLatin1 E) (x_out Q) <|
  o_ifeq (bJ6_init_2_41 E Q) <|
  o_aload 0 <|
  o_push (.int 0) <|
  o_putf [19] 1 .byte <|
  o_aload 0 <|
  o_aload 3 <|
  o_push (.int 0) <|
  o_iload 4 <|
  o_call 3 (wJ12_copyOfRange E) (x_out Q) <|
  o_putf [19] 0 (.array .byte) <|
  (bJ6_init_2_97 E Q)
def wJ6_init_2 (E : Nat → Value) : Wp := fun av h Q => match av with
  | [a0, a1, a2] => bJ6_init_2_0 E Q [a0, a1, a2, jk, jk] [] h
  | _ => False
set_option maxHeartbeats 4000000 in
theorem tJ6_init_2_97 {x : CX} {E : Nat → Value} {Q : Rs → HS → Prop} (EN : EX x E) (G : Gd x cJ6_init_2 "java/lang/String" yJ6_init_2 5 (Option.none : Option Jvm.ClassFile.FieldType) Q) (hF : x.1.2.2.2.frames = 11 ∧ x.1.2.2.2.locals = 271) (hC : x.2.2.2.2.2 = (fun _ => false)) (hxt : (∀ z ∈ x.2.2.1.2.1.exceptionTable.toList, False)) : Snd x 97 (bJ6_init_2_97 E Q) := by
  unfold bJ6_init_2_97
  exact s_return G dJ6_init_2_97
set_option maxHeartbeats 4000000 in
theorem tJ6_init_2_79 {x : CX} {E : Nat → Value} {Q : Rs → HS → Prop} (EN : EX x E) (G : Gd x cJ6_init_2 "java/lang/String" yJ6_init_2 5 (Option.none : Option Jvm.ClassFile.FieldType) Q) (hF : x.1.2.2.2.frames = 11 ∧ x.1.2.2.2.locals = 271) (hC : x.2.2.2.2.2 = (fun _ => false)) (hxt : (∀ z ∈ x.2.2.1.2.1.exceptionTable.toList, False)) : Snd x 79 (bJ6_init_2_79 E Q) := by
  unfold bJ6_init_2_79
  refine s_aload_n rfl G.b dJ6_init_2_79 ?_
  refine s_iconst (by decide) G.b dJ6_init_2_80 ?_
  refine s_putfF (r0 := (RJ6, TJ6, 4)) G.b G.ow G.kn (G.hts _ q1226) (by rw [G.name]; rfl) rfl (by decide) (by decide) rfl (G.hts _ q1229) (by decide +kernel) dJ6_init_2_81 ?_
  refine s_aload_n rfl G.b dJ6_init_2_84 ?_
  refine s_aload_n rfl G.b dJ6_init_2_85 ?_
  refine s_iconst (by decide) G.b dJ6_init_2_86 ?_
  refine s_iload G.b dJ6_init_2_87 ?_
  refine s_iconst (by decide) G.b dJ6_init_2_89 ?_
  refine s_ishl G.b dJ6_init_2_90 ?_
  refine s_callS G (mJ12_copyOfRange EN) q1206 q1207 q94 q1208 nmk_176 (rm_of hF (Nat.le_of_ble_eq_true rfl) (Nat.le_of_ble_eq_true rfl)) dJ6_init_2_91 ?_ (sx_out G (fun z hz => (hxt z hz).elim))
  refine s_putfF (r0 := (RJ6, TJ6, 4)) G.b G.ow G.kn (G.hts _ q1225) (by rw [G.name]; rfl) rfl (by decide) (by decide) rfl (G.hts _ q1227) (by decide +kernel) dJ6_init_2_94 ?_
  exact (tJ6_init_2_97 EN G hF hC hxt)
set_option maxHeartbeats 4000000 in
theorem tJ6_init_2_41 {x : CX} {E : Nat → Value} {Q : Rs → HS → Prop} (EN : EX x E) (G : Gd x cJ6_init_2 "java/lang/String" yJ6_init_2 5 (Option.none : Option Jvm.ClassFile.FieldType) Q) (hF : x.1.2.2.2.frames = 11 ∧ x.1.2.2.2.locals = 271) (hC : x.2.2.2.2.2 = (fun _ => false)) (hxt : (∀ z ∈ x.2.2.1.2.1.exceptionTable.toList, False)) : Snd x 41 (bJ6_init_2_41 E Q) := by
  unfold bJ6_init_2_41
  refine s_getst EN G q989 (i := 8) rfl dJ6_init_2_41 ?_
  refine s_ifeq (tgt := 79) G.b dJ6_init_2_44 (by decide) (tJ6_init_2_79 EN G hF hC hxt) ?_
  refine s_aload_n rfl G.b dJ6_init_2_47 ?_
  refine s_getf G.b G.ow G.kn (G.hts _ q248) (fun _ h => h) fa_62 dJ6_init_2_48 ?_
  refine s_ifeq (tgt := 79) G.b dJ6_init_2_51 (by decide) (tJ6_init_2_79 EN G hF hC hxt) ?_
  refine s_aload_n rfl G.b dJ6_init_2_54 ?_
  refine s_aload_n rfl G.b dJ6_init_2_55 ?_
  refine s_iconst (by decide) G.b dJ6_init_2_56 ?_
  refine s_iload G.b dJ6_init_2_57 ?_
  refine s_callS G (mJ7_compress EN) q1215 q1216 q87 q1217 nmk_177 (rm_of hF (Nat.le_of_ble_eq_true rfl) (Nat.le_of_ble_eq_true rfl)) dJ6_init_2_59 ?_ (sx_out G (fun z hz => (hxt z hz).elim))
  refine s_putfF (r0 := (RJ6, TJ6, 4)) G.b G.ow G.kn (G.hts _ q1225) (by rw [G.name]; rfl) rfl (by decide) (by decide) rfl (G.hts _ q1227) (by decide +kernel) dJ6_init_2_62 ?_
  refine s_aload_n rfl G.b dJ6_init_2_65 ?_
  refine s_aload_n rfl G.b dJ6_init_2_66 ?_
  refine s_getf G.b G.ow G.kn (G.hts _ q1225) (fun _ h => h) fa_54 dJ6_init_2_67 ?_
  refine s_iload G.b dJ6_init_2_70 ?_
  refine s_callS G (mJ7_coderFromArrayLen EN) q1222 q1223 q87 q1224 nmk_178 (rm_of hF (Nat.le_of_ble_eq_true rfl) (Nat.le_of_ble_eq_true rfl)) dJ6_init_2_72 ?_ (sx_out G (fun z hz => (hxt z hz).elim))
  refine s_putfF (r0 := (RJ6, TJ6, 4)) G.b G.ow G.kn (G.hts _ q1226) (by rw [G.name]; rfl) rfl (by decide) (by decide) rfl (G.hts _ q1229) (by decide +kernel) dJ6_init_2_75 ?_
  exact s_return G dJ6_init_2_78
set_option maxHeartbeats 4000000 in
theorem tJ6_init_2_0 {x : CX} {E : Nat → Value} {Q : Rs → HS → Prop} (EN : EX x E) (G : Gd x cJ6_init_2 "java/lang/String" yJ6_init_2 5 (Option.none : Option Jvm.ClassFile.FieldType) Q) (hF : x.1.2.2.2.frames = 11 ∧ x.1.2.2.2.locals = 271) (hC : x.2.2.2.2.2 = (fun _ => false)) (hxt : (∀ z ∈ x.2.2.1.2.1.exceptionTable.toList, False)) : Snd x 0 (bJ6_init_2_0 E Q) := by
  unfold bJ6_init_2_0
  refine s_aload_n rfl G.b dJ6_init_2_0 ?_
  refine s_objInit G.b G.ow G.hts q1198 q122 q123 G.ml (by rw [hF.1]; decide) (by rw [hF.2]; decide) dJ6_init_2_1 ?_
  refine s_aload_n rfl G.b dJ6_init_2_4 ?_
  refine s_callV G (mJ4_getValue EN) q1199 q1200 (sel_cons (r := (RJ5, TJ5, 4)) (by decide) rfl q1202 (sel_nil)) q84 q1203 nmk_179 (rm_of hF (Nat.le_of_ble_eq_true rfl) (Nat.le_of_ble_eq_true rfl)) dJ6_init_2_5 ?_ (sx_out G (fun z hz => (hxt z hz).elim))
  refine s_astore_n rfl G.b (by rw [G.nl]; decide) (fun _ _ => by rw [hC]) dJ6_init_2_8 ?_
  refine s_aload_n rfl G.b dJ6_init_2_9 ?_
  refine s_callVU (w := ⟨"java/lang/AbstractStringBuilder", "length", "()I"⟩) (owner := "java/lang/AbstractStringBuilder") G (mJ5_length EN) q1204 q2342 (va_Decl.of (G.hts _ q941) (G.hts _ q942)) (by decide +kernel) q937 (sel_cons (r := (RJ5, TJ5, 4)) (by decide) rfl q2350 (sel_nil)) q85 q939 nmk_21 (rm_of hF (Nat.le_of_ble_eq_true rfl) (Nat.le_of_ble_eq_true rfl)) dJ6_init_2_10 ?_ (sx_out G (fun z hz => (hxt z hz).elim))
  refine s_istore G.b (by rw [G.nl]; decide) (fun _ _ => by rw [hC]) dJ6_init_2_13 ?_
  refine s_aload_n rfl G.b dJ6_init_2_15 ?_
  refine s_callV G (mJ4_isLatin1 EN) q1205 q1154 (sel_cons (r := (RJ5, TJ5, 4)) (by decide) rfl q1156 (sel_nil)) q84 q1157 nmk_40 (rm_of hF (Nat.le_of_ble_eq_true rfl) (Nat.le_of_ble_eq_true rfl)) dJ6_init_2_16 ?_ (sx_out G (fun z hz => (hxt z hz).elim))
  refine s_ifeq (tgt := 41) G.b dJ6_init_2_19 (by decide) (tJ6_init_2_41 EN G hF hC hxt) ?_
  refine s_aload_n rfl G.b dJ6_init_2_22 ?_
  refine s_iconst (by decide) G.b dJ6_init_2_23 ?_
  refine s_putfF (r0 := (RJ6, TJ6, 4)) G.b G.ow G.kn (G.hts _ q1226) (by rw [G.name]; rfl) rfl (by decide) (by decide) rfl (G.hts _ q1229) (by decide +kernel) dJ6_init_2_24 ?_
  refine s_aload_n rfl G.b dJ6_init_2_27 ?_
  refine s_aload_n rfl G.b dJ6_init_2_28 ?_
  refine s_iconst (by decide) G.b dJ6_init_2_29 ?_
  refine s_iload G.b dJ6_init_2_30 ?_
  refine s_callS G (mJ12_copyOfRange EN) q1206 q1207 q94 q1208 nmk_176 (rm_of hF (Nat.le_of_ble_eq_true rfl) (Nat.le_of_ble_eq_true rfl)) dJ6_init_2_32 ?_ (sx_out G (fun z hz => (hxt z hz).elim))
  refine s_putfF (r0 := (RJ6, TJ6, 4)) G.b G.ow G.kn (G.hts _ q1225) (by rw [G.name]; rfl) rfl (by decide) (by decide) rfl (G.hts _ q1227) (by decide +kernel) dJ6_init_2_35 ?_
  exact s_goto (tgt := 97) G.b dJ6_init_2_38 (by decide) (tJ6_init_2_97 EN G hF hC hxt)
set_option maxHeartbeats 4000000 in
theorem mJ6_init_2 {l : Launch} {D : DE} {s0 : State} {E : Nat → Value} (EN : EV l D s0 E) : rMet l D s0 yJ6_init_2 (ws_ yJ6_init_2 cJ6_init_2 5 (Option.none : Option Jvm.ClassFile.FieldType)) 11 271 (wJ6_init_2 E) := by
  refine body_met (fun _ => false) EN.kn (fun w h => h) (by decide +kernel) rfl (fun av h Q hw => ?_) ?_
  · unfold wJ6_init_2 at hw
    split at hw
    · exact Nat.le_of_ble_eq_true rfl
    · exact hw.elim
  · intro p e s m below meth c av h Q hxt G hw
    unfold wJ6_init_2 at hw
    split at hw
    · exact tJ6_init_2_0 EN G ⟨rfl, rfl⟩ rfl hxt _ _ _ hw
    · exact hw.elim
/-! java/lang/String.<init>(Ljava/lang/StringBuilder;)V (J6_init) -/
theorem nmk_180 : nm_ok yJ6_init_2 2 := ⟨by decide +kernel, by decide +kernel, by decide +kernel⟩
def bJ6_init_0 (E : Nat → Value) (Q : Rs → HS → Prop) : Ct :=
  o_aload 0 <|
  o_aload 1 <|
  o_push .null <|
  o_callI 3 (wJ6_init_2 E) (x_out Q) <|
  o_return Q
def wJ6_init (E : Nat → Value) : Wp := fun av h Q => match av with
  | [a0, a1] => bJ6_init_0 E Q [a0, a1] [] h
  | _ => False
set_option maxHeartbeats 4000000 in
theorem tJ6_init_0 {x : CX} {E : Nat → Value} {Q : Rs → HS → Prop} (EN : EX x E) (G : Gd x cJ6_init "java/lang/String" yJ6_init 2 (Option.none : Option Jvm.ClassFile.FieldType) Q) (hF : x.1.2.2.2.frames = 12 ∧ x.1.2.2.2.locals = 295) (hC : x.2.2.2.2.2 = (fun _ => false)) (hxt : (∀ z ∈ x.2.2.1.2.1.exceptionTable.toList, False)) : Snd x 0 (bJ6_init_0 E Q) := by
  unfold bJ6_init_0
  refine s_aload_n rfl G.b dJ6_init_0 ?_
  refine s_aload_n rfl G.b dJ6_init_1 ?_
  refine s_null G.b dJ6_init_2 ?_
  refine s_callI G (mJ6_init_2 EN) rfl q1195 q1196 q86 q1197 nmk_180 (rm_of hF (Nat.le_of_ble_eq_true rfl) (Nat.le_of_ble_eq_true rfl)) dJ6_init_3 ?_ (sx_out G (fun z hz => (hxt z hz).elim))
  exact s_return G dJ6_init_6
set_option maxHeartbeats 4000000 in
theorem mJ6_init {l : Launch} {D : DE} {s0 : State} {E : Nat → Value} (EN : EV l D s0 E) : rMet l D s0 yJ6_init (ws_ yJ6_init cJ6_init 2 (Option.none : Option Jvm.ClassFile.FieldType)) 12 295 (wJ6_init E) := by
  refine body_met (fun _ => false) EN.kn (fun w h => h) (by decide +kernel) rfl (fun av h Q hw => ?_) ?_
  · unfold wJ6_init at hw
    split at hw
    · exact Nat.le_of_ble_eq_true rfl
    · exact hw.elim
  · intro p e s m below meth c av h Q hxt G hw
    unfold wJ6_init at hw
    split at hw
    · exact tJ6_init_0 EN G ⟨rfl, rfl⟩ rfl hxt _ _ _ hw
    · exact hw.elim
/-! java/lang/StringBuilder.toString()Ljava/lang/String; (J5_toString) -/
theorem nmk_181 : nm_ok yJ6_init 1 := ⟨by decide +kernel, by decide +kernel, by decide +kernel⟩
def bJ5_toString_0 (E : Nat → Value) (Q : Rs → HS → Prop) : Ct :=
  o_new 19 4 [.null, .int 0, .int 0, .int 0] <|
  o_dup <|
  o_aload 0 <|
  o_callI 2 (wJ6_init E) (x_out Q) <|
  o_areturn Q
def wJ5_toString (E : Nat → Value) : Wp := fun av h Q => match av with
  | [a0] => bJ5_toString_0 E Q [a0] [] h
  | _ => False
set_option maxHeartbeats 4000000 in
theorem tJ5_toString_0 {x : CX} {E : Nat → Value} {Q : Rs → HS → Prop} (EN : EX x E) (G : Gd x cJ5_toString "java/lang/StringBuilder" yJ5_toString 1 (Option.some (Jvm.ClassFile.FieldType.object "java/lang/String")) Q) (hF : x.1.2.2.2.frames = 13 ∧ x.1.2.2.2.locals = 316) (hC : x.2.2.2.2.2 = (fun _ => false)) (hxt : (∀ z ∈ x.2.2.1.2.1.exceptionTable.toList, False)) : Snd x 0 (bJ5_toString_0 E Q) := by
  unfold bJ5_toString_0
  refine s_new (C := RJ6) (T0 := TJ6) (N := 4) G.b G.ow G.kn G.gr G.hts rfl (by decide) in_J6 q1190 q1191 q86 tyJ6 tyJ6_ok rfl dJ5_toString_0 ?_
  refine s_dup G.b dJ5_toString_3 ?_
  refine s_aload_n rfl G.b dJ5_toString_4 ?_
  refine s_callI G (mJ6_init EN) rfl q1192 q1193 q86 q1194 nmk_181 (rm_of hF (Nat.le_of_ble_eq_true rfl) (Nat.le_of_ble_eq_true rfl)) dJ5_toString_5 ?_ (sx_out G (fun z hz => (hxt z hz).elim))
  exact s_areturn (Or.inl ⟨_, rfl⟩) G dJ5_toString_8
set_option maxHeartbeats 4000000 in
theorem mJ5_toString {l : Launch} {D : DE} {s0 : State} {E : Nat → Value} (EN : EV l D s0 E) : rMet l D s0 yJ5_toString (ws_ yJ5_toString cJ5_toString 1 (Option.some (Jvm.ClassFile.FieldType.object "java/lang/String"))) 13 316 (wJ5_toString E) := by
  refine body_met (fun _ => false) EN.kn (fun w h => h) (by decide +kernel) rfl (fun av h Q hw => ?_) ?_
  · unfold wJ5_toString at hw
    split at hw
    · exact Nat.le_of_ble_eq_true rfl
    · exact hw.elim
  · intro p e s m below meth c av h Q hxt G hw
    unfold wJ5_toString at hw
    split at hw
    · exact tJ5_toString_0 EN G ⟨rfl, rfl⟩ rfl hxt _ _ _ hw
    · exact hw.elim
/-! ChantRules$Choir.isBalanced([LChantRules$Test;)Z (X1_isBalanced) -/
theorem nmk_182 : nm_ok yJ5_toString 0 := ⟨by decide +kernel, by decide +kernel, by decide +kernel⟩
theorem nmk_183 : nm_ok yJ5_append_3 1 := ⟨by decide +kernel, by decide +kernel, by decide +kernel⟩
theorem nmk_184 : nm_ok yX0_sound 1 := ⟨by decide +kernel, by decide +kernel, by decide +kernel⟩
theorem nmk_185 : nm_ok yX4_sign 0 := ⟨by decide +kernel, by decide +kernel, by decide +kernel⟩
theorem nmk_186 : nm_ok yX1_arcs 0 := ⟨by decide +kernel, by decide +kernel, by decide +kernel⟩
def bX1_isBalanced_108 (E : Nat → Value) (Q : Rs → HS → Prop) (X31 : Ct) : Ct :=
  o_iload 3 <|
  o_ireturn .boolean Q
def bX1_isBalanced_100 (E : Nat → Value) (Q : Rs → HS → Prop) (X31 : Ct) : Ct :=
  o_iand <|
  o_istore 3 <|
  o_iinc 4 1 <|
  X31
def bX1_isBalanced_99 (E : Nat → Value) (Q : Rs → HS → Prop) (X31 : Ct) : Ct :=
  o_push (.int 0) <|
  (bX1_isBalanced_100 E Q X31)
def bX1_isBalanced_74 (E : Nat → Value) (Q : Rs → HS → Prop) (X31 : Ct) : Ct :=
  o_astore 5 <|
  o_iload 3 <|
  o_aload 2 <|
  o_aload 5 <|
  o_callV [4] 2 (wX2_reads E) (x_out Q) <|
  o_call 1 (wX0_weightOf E) (x_out Q) <|
  o_aload 0 <|
  o_aload 5 <|
  o_callV [1] 2 (wX1_bothAgain E) (x_out Q) <|
  o_icmpne (bX1_isBalanced_99 E Q X31) <|
  o_push (.int 1) <|
  (bX1_isBalanced_100 E Q X31)
def bX1_isBalanced_68 (E : Nat → Value) (Q : Rs → HS → Prop) (X31 : Ct) : Ct :=
  o_callV [18] 2 (wJ5_append E) (x_out Q) <|
  o_callV [18] 1 (wJ5_toString E) (x_out Q) <|
  (bX1_isBalanced_74 E Q X31)
def bX1_isBalanced_48 (E : Nat → Value) (Q : Rs → HS → Prop) (X31 : Ct) : Ct :=
  o_new 18 4 [.null, .int 0, .int 0, .int 0] <|
  o_dup <|
  o_callI 1 (wJ5_init E) (x_out Q) <|
  o_push (E 101) <|
  o_callV [18] 2 (wJ5_append_3 E) (x_out Q) <|
  o_iload 4 <|
  o_call 1 (wX0_sound E) (x_out Q) <|
  o_vsel 1 [21] (o_callV [21] 1 (wX4_sign E) (x_out Q) (bX1_isBalanced_68 E Q X31)) (o_sign1 (bX1_isBalanced_68 E Q X31))
def bX1_isBalanced_31 (E : Nat → Value) (Q : Rs → HS → Prop) (X31 : Ct) : Ct :=
  o_iload 4 <|
  o_push (.int 4) <|
  o_icmpgt (bX1_isBalanced_108 E Q X31) <|
  o_iload 4 <|
  o_push (.int 4) <|
  o_icmpne (bX1_isBalanced_48 E Q X31) <|
  o_push (E 101) <|
  (bX1_isBalanced_74 E Q X31)
def bX1_isBalanced_27 (E : Nat → Value) (Q : Rs → HS → Prop) (X31 : Ct) : Ct :=
  o_istore 3 <|
  o_push (.int 0) <|
  o_istore 4 <|
  X31
def bX1_isBalanced_26 (E : Nat → Value) (Q : Rs → HS → Prop) (X31 : Ct) : Ct :=
  o_push (.int 0) <|
  (bX1_isBalanced_27 E Q X31)
def bX1_isBalanced_0 (E : Nat → Value) (Q : Rs → HS → Prop) (X31 : Ct) : Ct :=
  o_aload 0 <|
  o_aload 1 <|
  o_callV [1] 2 (wX1_composed E) (x_out Q) <|
  o_astore 2 <|
  o_aload 0 <|
  o_callV [1] 1 (wX1_arcs E) (x_out Q) <|
  o_aload 0 <|
  o_getf [1] 1 <|
  o_aload 0 <|
  o_getf [1] 2 <|
  o_isub <|
  o_icmpne (bX1_isBalanced_26 E Q X31) <|
  o_push (.int 1) <|
  (bX1_isBalanced_27 E Q X31)
def wX1_isBalanced (E : Nat → Value) : Wp := fun av h Q => match av with
  | [a0, a1] => ∀ X31 : Ct, (∀ ls st h, bX1_isBalanced_31 E Q X31 ls st h → X31 ls st h) → bX1_isBalanced_0 E Q X31 [a0, a1, jk, jk, jk, jk] [] h
  | _ => False
set_option maxHeartbeats 4000000 in
theorem tX1_isBalanced_108 {x : CX} {E : Nat → Value} {Q : Rs → HS → Prop} {X31 : Ct} (EN : EX x E) (G : Gd x cX1_isBalanced "ChantRules$Choir" yX1_isBalanced 6 (Option.some Jvm.ClassFile.FieldType.boolean) Q) (hF : x.1.2.2.2.frames = 408 ∧ x.1.2.2.2.locals = 9014) (hC : x.2.2.2.2.2 = (fun _ => false)) (hxt : (∀ z ∈ x.2.2.1.2.1.exceptionTable.toList, False)) (h31 : Snd x 31 X31) : Snd x 108 (bX1_isBalanced_108 E Q X31) := by
  unfold bX1_isBalanced_108
  refine s_iload_n rfl G.b dX1_isBalanced_108 ?_
  exact s_ireturn G dX1_isBalanced_109
set_option maxHeartbeats 4000000 in
theorem tX1_isBalanced_100 {x : CX} {E : Nat → Value} {Q : Rs → HS → Prop} {X31 : Ct} (EN : EX x E) (G : Gd x cX1_isBalanced "ChantRules$Choir" yX1_isBalanced 6 (Option.some Jvm.ClassFile.FieldType.boolean) Q) (hF : x.1.2.2.2.frames = 408 ∧ x.1.2.2.2.locals = 9014) (hC : x.2.2.2.2.2 = (fun _ => false)) (hxt : (∀ z ∈ x.2.2.1.2.1.exceptionTable.toList, False)) (h31 : Snd x 31 X31) : Snd x 100 (bX1_isBalanced_100 E Q X31) := by
  unfold bX1_isBalanced_100
  refine s_iand G.b dX1_isBalanced_100 ?_
  refine s_istore_n rfl G.b (by rw [G.nl]; decide) (fun _ _ => by rw [hC]) dX1_isBalanced_101 ?_
  refine s_iinc (by decide) G.b (by rw [G.nl]; decide) (fun _ _ => by rw [hC]) dX1_isBalanced_102 ?_
  exact s_goto (tgt := 31) G.b dX1_isBalanced_105 (by decide) h31
set_option maxHeartbeats 4000000 in
theorem tX1_isBalanced_99 {x : CX} {E : Nat → Value} {Q : Rs → HS → Prop} {X31 : Ct} (EN : EX x E) (G : Gd x cX1_isBalanced "ChantRules$Choir" yX1_isBalanced 6 (Option.some Jvm.ClassFile.FieldType.boolean) Q) (hF : x.1.2.2.2.frames = 408 ∧ x.1.2.2.2.locals = 9014) (hC : x.2.2.2.2.2 = (fun _ => false)) (hxt : (∀ z ∈ x.2.2.1.2.1.exceptionTable.toList, False)) (h31 : Snd x 31 X31) : Snd x 99 (bX1_isBalanced_99 E Q X31) := by
  unfold bX1_isBalanced_99
  refine s_iconst (by decide) G.b dX1_isBalanced_99 ?_
  exact (tX1_isBalanced_100 EN G hF hC hxt h31)
set_option maxHeartbeats 4000000 in
theorem tX1_isBalanced_74 {x : CX} {E : Nat → Value} {Q : Rs → HS → Prop} {X31 : Ct} (EN : EX x E) (G : Gd x cX1_isBalanced "ChantRules$Choir" yX1_isBalanced 6 (Option.some Jvm.ClassFile.FieldType.boolean) Q) (hF : x.1.2.2.2.frames = 408 ∧ x.1.2.2.2.locals = 9014) (hC : x.2.2.2.2.2 = (fun _ => false)) (hxt : (∀ z ∈ x.2.2.1.2.1.exceptionTable.toList, False)) (h31 : Snd x 31 X31) : Snd x 74 (bX1_isBalanced_74 E Q X31) := by
  unfold bX1_isBalanced_74
  refine s_astore G.b (by rw [G.nl]; decide) (fun _ _ => by rw [hC]) dX1_isBalanced_74 ?_
  refine s_iload_n rfl G.b dX1_isBalanced_76 ?_
  refine s_aload_n rfl G.b dX1_isBalanced_77 ?_
  refine s_aload G.b dX1_isBalanced_78 ?_
  refine s_callVU (w := ⟨"ChantRules$Composed", "reads", "(Ljava/lang/CharSequence;)LChantRules$Way;"⟩) (owner := "ChantRules$Machine") G (mX2_reads EN) q1847 q1299 (va_Decl.of (G.hts _ q973) (G.hts _ q974)) (by decide +kernel) q973 (sel_cons (r := (RX11, TX11, 3)) (by decide) rfl q1300 (sel_nil)) q78 q974 nmk_120 (rm_of hF (Nat.le_of_ble_eq_true rfl) (Nat.le_of_ble_eq_true rfl)) dX1_isBalanced_80 ?_ (sx_out G (fun z hz => (hxt z hz).elim))
  refine s_callSN G (mX0_weightOf EN) (va_Nw.use rfl (va_Nw.warmM G.warm (EN.nw q1848 rfl))) q1088 q76 q1089 nmk_121 (rm_of hF (Nat.le_of_ble_eq_true rfl) (Nat.le_of_ble_eq_true rfl)) dX1_isBalanced_83 ?_ (sx_out G (fun z hz => (hxt z hz).elim))
  refine s_aload_n rfl G.b dX1_isBalanced_86 ?_
  refine s_aload G.b dX1_isBalanced_87 ?_
  refine s_callV G (mX1_bothAgain EN) q1849 q1306 (sel_cons (r := (RX1, TX1, 4)) (by decide) rfl q1307 (sel_nil)) q77 q1308 nmk_127 (rm_of hF (Nat.le_of_ble_eq_true rfl) (Nat.le_of_ble_eq_true rfl)) dX1_isBalanced_89 ?_ (sx_out G (fun z hz => (hxt z hz).elim))
  refine s_icmpne (tgt := 99) G.b dX1_isBalanced_92 (by decide) (tX1_isBalanced_99 EN G hF hC hxt h31) ?_
  refine s_iconst (by decide) G.b dX1_isBalanced_95 ?_
  exact s_goto (tgt := 100) G.b dX1_isBalanced_96 (by decide) (tX1_isBalanced_100 EN G hF hC hxt h31)
set_option maxHeartbeats 4000000 in
theorem tX1_isBalanced_68 {x : CX} {E : Nat → Value} {Q : Rs → HS → Prop} {X31 : Ct} (EN : EX x E) (G : Gd x cX1_isBalanced "ChantRules$Choir" yX1_isBalanced 6 (Option.some Jvm.ClassFile.FieldType.boolean) Q) (hF : x.1.2.2.2.frames = 408 ∧ x.1.2.2.2.locals = 9014) (hC : x.2.2.2.2.2 = (fun _ => false)) (hxt : (∀ z ∈ x.2.2.1.2.1.exceptionTable.toList, False)) (h31 : Snd x 31 X31) : Snd x 68 (bX1_isBalanced_68 E Q X31) := by
  unfold bX1_isBalanced_68
  refine s_callV G (mJ5_append EN) q1845 q1129 (sel_cons (r := (RJ5, TJ5, 4)) (by decide) rfl q1130 (sel_nil)) q85 q1131 nmk_49 (rm_of hF (Nat.le_of_ble_eq_true rfl) (Nat.le_of_ble_eq_true rfl)) dX1_isBalanced_68 ?_ (sx_out G (fun z hz => (hxt z hz).elim))
  refine s_callV G (mJ5_toString EN) q1846 q1187 (sel_cons (r := (RJ5, TJ5, 4)) (by decide) rfl q1188 (sel_nil)) q85 q1189 nmk_182 (rm_of hF (Nat.le_of_ble_eq_true rfl) (Nat.le_of_ble_eq_true rfl)) dX1_isBalanced_71 ?_ (sx_out G (fun z hz => (hxt z hz).elim))
  exact (tX1_isBalanced_74 EN G hF hC hxt h31)
set_option maxHeartbeats 4000000 in
theorem tX1_isBalanced_48 {x : CX} {E : Nat → Value} {Q : Rs → HS → Prop} {X31 : Ct} (EN : EX x E) (G : Gd x cX1_isBalanced "ChantRules$Choir" yX1_isBalanced 6 (Option.some Jvm.ClassFile.FieldType.boolean) Q) (hF : x.1.2.2.2.frames = 408 ∧ x.1.2.2.2.locals = 9014) (hC : x.2.2.2.2.2 = (fun _ => false)) (hxt : (∀ z ∈ x.2.2.1.2.1.exceptionTable.toList, False)) (h31 : Snd x 31 X31) : Snd x 48 (bX1_isBalanced_48 E Q X31) := by
  unfold bX1_isBalanced_48
  refine s_new (C := RJ5) (T0 := TJ5) (N := 4) G.b G.ow G.kn G.gr G.hts rfl (by decide) in_J5 q1840 q228 q85 tyJ5 tyJ5_ok rfl dX1_isBalanced_48 ?_
  refine s_dup G.b dX1_isBalanced_51 ?_
  refine s_callI G (mJ5_init EN) rfl q1841 q230 q85 q231 nmk_11 (rm_of hF (Nat.le_of_ble_eq_true rfl) (Nat.le_of_ble_eq_true rfl)) dX1_isBalanced_52 ?_ (sx_out G (fun z hz => (hxt z hz).elim))
  refine s_ldcSt EN G (i := 1) rfl dX1_isBalanced_55 ?_
  refine s_callV G (mJ5_append_3 EN) q1842 q1763 (sel_cons (r := (RJ5, TJ5, 4)) (by decide) rfl q1764 (sel_nil)) q85 q1765 nmk_183 (rm_of hF (Nat.le_of_ble_eq_true rfl) (Nat.le_of_ble_eq_true rfl)) dX1_isBalanced_57 ?_ (sx_out G (fun z hz => (hxt z hz).elim))
  refine s_iload G.b dX1_isBalanced_60 ?_
  refine s_callSN G (mX0_sound EN) (va_Nw.use rfl (va_Nw.warmM G.warm (EN.nw q1843 rfl))) q1107 q76 q1108 nmk_184 (rm_of hF (Nat.le_of_ble_eq_true rfl) (Nat.le_of_ble_eq_true rfl)) dX1_isBalanced_62 ?_ (sx_out G (fun z hz => (hxt z hz).elim))
  exact (s_vsel (s_callV G (mX4_sign EN) q1844 q1120 (sel_cons (r := (RSnd, TSnd, 1)) (by decide) rfl q1121 (sel_nil)) q89 q1126 nmk_185 (rm_of hF (Nat.le_of_ble_eq_true rfl) (Nat.le_of_ble_eq_true rfl)) dX1_isBalanced_65 (tX1_isBalanced_68 EN G hF hC hxt h31) (sx_out G (fun z hz => (hxt z hz).elim)) ) (s_sign1 EN G (rm_of hF (Nat.le_of_ble_eq_true rfl) (Nat.le_of_ble_eq_true rfl)) q1844 dX1_isBalanced_65 (tX1_isBalanced_68 EN G hF hC hxt h31) ))
set_option maxHeartbeats 4000000 in
theorem tX1_isBalanced_31 {x : CX} {E : Nat → Value} {Q : Rs → HS → Prop} {X31 : Ct} (EN : EX x E) (G : Gd x cX1_isBalanced "ChantRules$Choir" yX1_isBalanced 6 (Option.some Jvm.ClassFile.FieldType.boolean) Q) (hF : x.1.2.2.2.frames = 408 ∧ x.1.2.2.2.locals = 9014) (hC : x.2.2.2.2.2 = (fun _ => false)) (hxt : (∀ z ∈ x.2.2.1.2.1.exceptionTable.toList, False)) (h31 : Snd x 31 X31) : Snd x 31 (bX1_isBalanced_31 E Q X31) := by
  unfold bX1_isBalanced_31
  refine s_iload G.b dX1_isBalanced_31 ?_
  refine s_iconst (by decide) G.b dX1_isBalanced_33 ?_
  refine s_icmpgt (tgt := 108) G.b dX1_isBalanced_34 (by decide) (tX1_isBalanced_108 EN G hF hC hxt h31) ?_
  refine s_iload G.b dX1_isBalanced_37 ?_
  refine s_iconst (by decide) G.b dX1_isBalanced_39 ?_
  refine s_icmpne (tgt := 48) G.b dX1_isBalanced_40 (by decide) (tX1_isBalanced_48 EN G hF hC hxt h31) ?_
  refine s_ldcSt EN G (i := 1) rfl dX1_isBalanced_43 ?_
  exact s_goto (tgt := 74) G.b dX1_isBalanced_45 (by decide) (tX1_isBalanced_74 EN G hF hC hxt h31)
set_option maxHeartbeats 4000000 in
theorem tX1_isBalanced_27 {x : CX} {E : Nat → Value} {Q : Rs → HS → Prop} {X31 : Ct} (EN : EX x E) (G : Gd x cX1_isBalanced "ChantRules$Choir" yX1_isBalanced 6 (Option.some Jvm.ClassFile.FieldType.boolean) Q) (hF : x.1.2.2.2.frames = 408 ∧ x.1.2.2.2.locals = 9014) (hC : x.2.2.2.2.2 = (fun _ => false)) (hxt : (∀ z ∈ x.2.2.1.2.1.exceptionTable.toList, False)) (h31 : Snd x 31 X31) : Snd x 27 (bX1_isBalanced_27 E Q X31) := by
  unfold bX1_isBalanced_27
  refine s_istore_n rfl G.b (by rw [G.nl]; decide) (fun _ _ => by rw [hC]) dX1_isBalanced_27 ?_
  refine s_iconst (by decide) G.b dX1_isBalanced_28 ?_
  refine s_istore G.b (by rw [G.nl]; decide) (fun _ _ => by rw [hC]) dX1_isBalanced_29 ?_
  exact h31
set_option maxHeartbeats 4000000 in
theorem tX1_isBalanced_26 {x : CX} {E : Nat → Value} {Q : Rs → HS → Prop} {X31 : Ct} (EN : EX x E) (G : Gd x cX1_isBalanced "ChantRules$Choir" yX1_isBalanced 6 (Option.some Jvm.ClassFile.FieldType.boolean) Q) (hF : x.1.2.2.2.frames = 408 ∧ x.1.2.2.2.locals = 9014) (hC : x.2.2.2.2.2 = (fun _ => false)) (hxt : (∀ z ∈ x.2.2.1.2.1.exceptionTable.toList, False)) (h31 : Snd x 31 X31) : Snd x 26 (bX1_isBalanced_26 E Q X31) := by
  unfold bX1_isBalanced_26
  refine s_iconst (by decide) G.b dX1_isBalanced_26 ?_
  exact (tX1_isBalanced_27 EN G hF hC hxt h31)
set_option maxHeartbeats 4000000 in
theorem tX1_isBalanced_0 {x : CX} {E : Nat → Value} {Q : Rs → HS → Prop} {X31 : Ct} (EN : EX x E) (G : Gd x cX1_isBalanced "ChantRules$Choir" yX1_isBalanced 6 (Option.some Jvm.ClassFile.FieldType.boolean) Q) (hF : x.1.2.2.2.frames = 408 ∧ x.1.2.2.2.locals = 9014) (hC : x.2.2.2.2.2 = (fun _ => false)) (hxt : (∀ z ∈ x.2.2.1.2.1.exceptionTable.toList, False)) (h31 : Snd x 31 X31) : Snd x 0 (bX1_isBalanced_0 E Q X31) := by
  unfold bX1_isBalanced_0
  refine s_aload_n rfl G.b dX1_isBalanced_0 ?_
  refine s_aload_n rfl G.b dX1_isBalanced_1 ?_
  refine s_callV G (mX1_composed EN) q1833 q1242 (sel_cons (r := (RX1, TX1, 4)) (by decide) rfl q1243 (sel_nil)) q77 q1244 nmk_119 (rm_of hF (Nat.le_of_ble_eq_true rfl) (Nat.le_of_ble_eq_true rfl)) dX1_isBalanced_2 ?_ (sx_out G (fun z hz => (hxt z hz).elim))
  refine s_astore_n rfl G.b (by rw [G.nl]; decide) (fun _ _ => by rw [hC]) dX1_isBalanced_5 ?_
  refine s_aload_n rfl G.b dX1_isBalanced_6 ?_
  refine s_callV G (mX1_arcs EN) q1834 q1835 (sel_cons (r := (RX1, TX1, 4)) (by decide) rfl q1836 (sel_nil)) q77 q1837 nmk_186 (rm_of hF (Nat.le_of_ble_eq_true rfl) (Nat.le_of_ble_eq_true rfl)) dX1_isBalanced_7 ?_ (sx_out G (fun z hz => (hxt z hz).elim))
  refine s_aload_n rfl G.b dX1_isBalanced_10 ?_
  refine s_getf G.b G.ow G.kn (G.hts _ q195) (fun _ h => h) fa_28 dX1_isBalanced_11 ?_
  refine s_aload_n rfl G.b dX1_isBalanced_14 ?_
  refine s_getf G.b G.ow G.kn (G.hts _ q197) (fun _ h => h) fa_27 dX1_isBalanced_15 ?_
  refine s_isub G.b dX1_isBalanced_18 ?_
  refine s_icmpne (tgt := 26) G.b dX1_isBalanced_19 (by decide) (tX1_isBalanced_26 EN G hF hC hxt h31) ?_
  refine s_iconst (by decide) G.b dX1_isBalanced_22 ?_
  exact s_goto (tgt := 27) G.b dX1_isBalanced_23 (by decide) (tX1_isBalanced_27 EN G hF hC hxt h31)
set_option maxHeartbeats 4000000 in
theorem mX1_isBalanced {l : Launch} {D : DE} {s0 : State} {E : Nat → Value} (EN : EV l D s0 E) : rMet l D s0 yX1_isBalanced (ws_ yX1_isBalanced cX1_isBalanced 6 (Option.some Jvm.ClassFile.FieldType.boolean)) 408 9014 (wX1_isBalanced E) := by
  refine body_met (fun _ => false) EN.kn (fun w h => h) (by decide +kernel) rfl (fun av h Q hw => ?_) ?_
  · unfold wX1_isBalanced at hw
    split at hw
    · exact Nat.le_of_ble_eq_true rfl
    · exact hw.elim
  · intro p e s m below meth c av h Q hxt G hw
    unfold wX1_isBalanced at hw
    split at hw
    · exact tX1_isBalanced_0 EN G ⟨rfl, rfl⟩ rfl hxt (fun _ _ _ h => h) _ _ _ (hw (AW _ 31) (tX1_isBalanced_31 EN G ⟨rfl, rfl⟩ rfl hxt (fun _ _ _ h => h)))
    · exact hw.elim
/-! ChantRules.isBalanced()I (X0_isBalanced) -/
theorem nmk_187 : nm_ok yX1_isBalanced 1 := ⟨by decide +kernel, by decide +kernel, by decide +kernel⟩
def bX0_isBalanced_19 (E : Nat → Value) (Q : Rs → HS → Prop) : Ct :=
  o_ireturn .int Q
def bX0_isBalanced_18 (E : Nat → Value) (Q : Rs → HS → Prop) : Ct :=
  o_push (.int 0) <|
  (bX0_isBalanced_19 E Q)
def bX0_isBalanced_0 (E : Nat → Value) (Q : Rs → HS → Prop) : Ct :=
  o_aload 0 <|
  o_getf [0] 1 <|
  o_aload 0 <|
  o_getf [0] 0 <|
  o_callV [1] 2 (wX1_isBalanced E) (x_out Q) <|
  o_ifeq (bX0_isBalanced_18 E Q) <|
  o_push (.int 1) <|
  (bX0_isBalanced_19 E Q)
def wX0_isBalanced (E : Nat → Value) : Wp := fun av h Q => match av with
  | [a0] => bX0_isBalanced_0 E Q [a0] [] h
  | _ => False
set_option maxHeartbeats 4000000 in
theorem tX0_isBalanced_19 {x : CX} {E : Nat → Value} {Q : Rs → HS → Prop} (EN : EX x E) (G : Gd x cX0_isBalanced "ChantRules" yX0_isBalanced 1 (Option.some Jvm.ClassFile.FieldType.int) Q) (hF : x.1.2.2.2.frames = 409 ∧ x.1.2.2.2.locals = 9039) (hC : x.2.2.2.2.2 = (fun _ => false)) (hxt : (∀ z ∈ x.2.2.1.2.1.exceptionTable.toList, False)) : Snd x 19 (bX0_isBalanced_19 E Q) := by
  unfold bX0_isBalanced_19
  exact s_ireturn G dX0_isBalanced_19
set_option maxHeartbeats 4000000 in
theorem tX0_isBalanced_18 {x : CX} {E : Nat → Value} {Q : Rs → HS → Prop} (EN : EX x E) (G : Gd x cX0_isBalanced "ChantRules" yX0_isBalanced 1 (Option.some Jvm.ClassFile.FieldType.int) Q) (hF : x.1.2.2.2.frames = 409 ∧ x.1.2.2.2.locals = 9039) (hC : x.2.2.2.2.2 = (fun _ => false)) (hxt : (∀ z ∈ x.2.2.1.2.1.exceptionTable.toList, False)) : Snd x 18 (bX0_isBalanced_18 E Q) := by
  unfold bX0_isBalanced_18
  refine s_iconst (by decide) G.b dX0_isBalanced_18 ?_
  exact (tX0_isBalanced_19 EN G hF hC hxt)
set_option maxHeartbeats 4000000 in
theorem tX0_isBalanced_0 {x : CX} {E : Nat → Value} {Q : Rs → HS → Prop} (EN : EX x E) (G : Gd x cX0_isBalanced "ChantRules" yX0_isBalanced 1 (Option.some Jvm.ClassFile.FieldType.int) Q) (hF : x.1.2.2.2.frames = 409 ∧ x.1.2.2.2.locals = 9039) (hC : x.2.2.2.2.2 = (fun _ => false)) (hxt : (∀ z ∈ x.2.2.1.2.1.exceptionTable.toList, False)) : Snd x 0 (bX0_isBalanced_0 E Q) := by
  unfold bX0_isBalanced_0
  refine s_aload_n rfl G.b dX0_isBalanced_0 ?_
  refine s_getf G.b G.ow G.kn (G.hts _ q300) (fun _ h => h) fa_11 dX0_isBalanced_1 ?_
  refine s_aload_n rfl G.b dX0_isBalanced_4 ?_
  refine s_getf G.b G.ow G.kn (G.hts _ q299) (fun _ h => h) fa_10 dX0_isBalanced_5 ?_
  refine s_callV G (mX1_isBalanced EN) q1829 q1830 (sel_cons (r := (RX1, TX1, 4)) (by decide) rfl q1831 (sel_nil)) q77 q1832 nmk_187 (rm_of hF (Nat.le_of_ble_eq_true rfl) (Nat.le_of_ble_eq_true rfl)) dX0_isBalanced_8 ?_ (sx_out G (fun z hz => (hxt z hz).elim))
  refine s_ifeq (tgt := 18) G.b dX0_isBalanced_11 (by decide) (tX0_isBalanced_18 EN G hF hC hxt) ?_
  refine s_iconst (by decide) G.b dX0_isBalanced_14 ?_
  exact s_goto (tgt := 19) G.b dX0_isBalanced_15 (by decide) (tX0_isBalanced_19 EN G hF hC hxt)
set_option maxHeartbeats 4000000 in
theorem mX0_isBalanced {l : Launch} {D : DE} {s0 : State} {E : Nat → Value} (EN : EV l D s0 E) : rMet l D s0 yX0_isBalanced (ws_ yX0_isBalanced cX0_isBalanced 1 (Option.some Jvm.ClassFile.FieldType.int)) 409 9039 (wX0_isBalanced E) := by
  refine body_met (fun _ => false) EN.kn (fun w h => h) (by decide +kernel) rfl (fun av h Q hw => ?_) ?_
  · unfold wX0_isBalanced at hw
    split at hw
    · exact Nat.le_of_ble_eq_true rfl
    · exact hw.elim
  · intro p e s m below meth c av h Q hxt G hw
    unfold wX0_isBalanced at hw
    split at hw
    · exact tX0_isBalanced_0 EN G ⟨rfl, rfl⟩ rfl hxt _ _ _ hw
    · exact hw.elim
/-! ChantRules.least(I)I (X0_least) -/
theorem nmk_188 : nm_ok ⟨"ChantRules$Rule", "reads", "(Ljava/lang/CharSequence;)LChantRules$Way;"⟩ 1 := ⟨by decide +kernel, by decide +kernel, by decide +kernel⟩
def bX0_least_43 (E : Nat → Value) (Q : Rs → HS → Prop) : Ct :=
  o_ireturn .int Q
def bX0_least_24 (E : Nat → Value) (Q : Rs → HS → Prop) : Ct :=
  o_aload 0 <|
  o_getf [0] 1 <|
  o_getf [1] 0 <|
  o_iload 1 <|
  o_ald [103, 104, 105, 106, 107] <|
  o_aload 0 <|
  o_getf [0] 8 <|
  o_callV [2] 2 (wX2_reads E) (x_out Q) <|
  o_call 1 (wX0_weightOf E) (x_out Q) <|
  (bX0_least_43 E Q)
def bX0_least_12 (E : Nat → Value) (Q : Rs → HS → Prop) : Ct :=
  o_aload 0 <|
  o_callV [0] 1 (wX0_isWord E) (x_out Q) <|
  o_ifne (bX0_least_24 E Q) <|
  o_push (.int (-12)) <|
  (bX0_least_43 E Q)
def bX0_least_0 (E : Nat → Value) (Q : Rs → HS → Prop) : Ct :=
  o_iload 1 <|
  o_call 1 (wX0_isRule E) (x_out Q) <|
  o_ifne (bX0_least_12 E Q) <|
  o_push (.int (-11)) <|
  (bX0_least_43 E Q)
def wX0_least (E : Nat → Value) : Wp := fun av h Q => match av with
  | [a0, a1] => bX0_least_0 E Q [a0, a1] [] h
  | _ => False
set_option maxHeartbeats 4000000 in
theorem tX0_least_43 {x : CX} {E : Nat → Value} {Q : Rs → HS → Prop} (EN : EX x E) (G : Gd x cX0_least "ChantRules" yX0_least 2 (Option.some Jvm.ClassFile.FieldType.int) Q) (hF : x.1.2.2.2.frames = 408 ∧ x.1.2.2.2.locals = 9014) (hC : x.2.2.2.2.2 = (fun _ => false)) (hxt : (∀ z ∈ x.2.2.1.2.1.exceptionTable.toList, False)) : Snd x 43 (bX0_least_43 E Q) := by
  unfold bX0_least_43
  exact s_ireturn G dX0_least_43
set_option maxHeartbeats 4000000 in
theorem tX0_least_24 {x : CX} {E : Nat → Value} {Q : Rs → HS → Prop} (EN : EX x E) (G : Gd x cX0_least "ChantRules" yX0_least 2 (Option.some Jvm.ClassFile.FieldType.int) Q) (hF : x.1.2.2.2.frames = 408 ∧ x.1.2.2.2.locals = 9014) (hC : x.2.2.2.2.2 = (fun _ => false)) (hxt : (∀ z ∈ x.2.2.1.2.1.exceptionTable.toList, False)) : Snd x 24 (bX0_least_24 E Q) := by
  unfold bX0_least_24
  refine s_aload_n rfl G.b dX0_least_24 ?_
  refine s_getf G.b G.ow G.kn (G.hts _ q300) (fun _ h => h) fa_11 dX0_least_25 ?_
  refine s_getfN G.b G.ow G.kn (va_Nw.use rfl (va_Nw.warmF G.warm (EN.nw q194 rfl))) (fun _ h => h) fa_5 dX0_least_28 ?_
  refine s_iload_n rfl G.b dX0_least_31 ?_
  refine s_aald G.b G.kn dX0_least_32 ?_
  refine s_aload_n rfl G.b dX0_least_33 ?_
  refine s_getf G.b G.ow G.kn (G.hts _ q307) (fun _ h => h) fa_13 dX0_least_34 ?_
  refine s_callVU (w := ⟨"ChantRules$Rule", "reads", "(Ljava/lang/CharSequence;)LChantRules$Way;"⟩) (owner := "ChantRules$Machine") G (mX2_reads EN) q969 q970 (va_Decl.of (G.hts _ q973) (G.hts _ q974)) (by decide +kernel) q973 (sel_cons (r := (RX3, TX3, 3)) (by decide) rfl q972 (sel_nil)) q78 q974 nmk_188 (rm_of hF (Nat.le_of_ble_eq_true rfl) (Nat.le_of_ble_eq_true rfl)) dX0_least_37 ?_ (sx_out G (fun z hz => (hxt z hz).elim))
  refine s_callS G (mX0_weightOf EN) q1087 q1088 q76 q1089 nmk_121 (rm_of hF (Nat.le_of_ble_eq_true rfl) (Nat.le_of_ble_eq_true rfl)) dX0_least_40 ?_ (sx_out G (fun z hz => (hxt z hz).elim))
  exact (tX0_least_43 EN G hF hC hxt)
set_option maxHeartbeats 4000000 in
theorem tX0_least_12 {x : CX} {E : Nat → Value} {Q : Rs → HS → Prop} (EN : EX x E) (G : Gd x cX0_least "ChantRules" yX0_least 2 (Option.some Jvm.ClassFile.FieldType.int) Q) (hF : x.1.2.2.2.frames = 408 ∧ x.1.2.2.2.locals = 9014) (hC : x.2.2.2.2.2 = (fun _ => false)) (hxt : (∀ z ∈ x.2.2.1.2.1.exceptionTable.toList, False)) : Snd x 12 (bX0_least_12 E Q) := by
  unfold bX0_least_12
  refine s_aload_n rfl G.b dX0_least_12 ?_
  refine s_callV G (mX0_isWord EN) q932 q934 (sel_cons (r := (RX0, TX0, 10)) (by decide) rfl qs10 (sel_nil)) q76 q935 nmk_118 (rm_of hF (Nat.le_of_ble_eq_true rfl) (Nat.le_of_ble_eq_true rfl)) dX0_least_13 ?_ (sx_out G (fun z hz => (hxt z hz).elim))
  refine s_ifne (tgt := 24) G.b dX0_least_16 (by decide) (tX0_least_24 EN G hF hC hxt) ?_
  refine s_bipush (by decide) G.b dX0_least_19 ?_
  exact s_goto (tgt := 43) G.b dX0_least_21 (by decide) (tX0_least_43 EN G hF hC hxt)
set_option maxHeartbeats 4000000 in
theorem tX0_least_0 {x : CX} {E : Nat → Value} {Q : Rs → HS → Prop} (EN : EX x E) (G : Gd x cX0_least "ChantRules" yX0_least 2 (Option.some Jvm.ClassFile.FieldType.int) Q) (hF : x.1.2.2.2.frames = 408 ∧ x.1.2.2.2.locals = 9014) (hC : x.2.2.2.2.2 = (fun _ => false)) (hxt : (∀ z ∈ x.2.2.1.2.1.exceptionTable.toList, False)) : Snd x 0 (bX0_least_0 E Q) := by
  unfold bX0_least_0
  refine s_iload_n rfl G.b dX0_least_0 ?_
  refine s_callS G (mX0_isRule EN) q336 q337 q76 q338 nmk_66 (rm_of hF (Nat.le_of_ble_eq_true rfl) (Nat.le_of_ble_eq_true rfl)) dX0_least_1 ?_ (sx_out G (fun z hz => (hxt z hz).elim))
  refine s_ifne (tgt := 12) G.b dX0_least_4 (by decide) (tX0_least_12 EN G hF hC hxt) ?_
  refine s_bipush (by decide) G.b dX0_least_7 ?_
  exact s_goto (tgt := 43) G.b dX0_least_9 (by decide) (tX0_least_43 EN G hF hC hxt)
set_option maxHeartbeats 4000000 in
theorem mX0_least {l : Launch} {D : DE} {s0 : State} {E : Nat → Value} (EN : EV l D s0 E) : rMet l D s0 yX0_least (ws_ yX0_least cX0_least 2 (Option.some Jvm.ClassFile.FieldType.int)) 408 9014 (wX0_least E) := by
  refine body_met (fun _ => false) EN.kn (fun w h => h) (by decide +kernel) rfl (fun av h Q hw => ?_) ?_
  · unfold wX0_least at hw
    split at hw
    · exact Nat.le_of_ble_eq_true rfl
    · exact hw.elim
  · intro p e s m below meth c av h Q hxt G hw
    unfold wX0_least at hw
    split at hw
    · exact tX0_least_0 EN G ⟨rfl, rfl⟩ rfl hxt _ _ _ hw
    · exact hw.elim
/-! ChantRules.meanWeight()D (X0_meanWeight) -/
def bX0_meanWeight_27 (E : Nat → Value) (Q : Rs → HS → Prop) : Ct :=
  o_dreturn Q
def bX0_meanWeight_16 (E : Nat → Value) (Q : Rs → HS → Prop) : Ct :=
  o_aload 0 <|
  o_getf [0] 1 <|
  o_callV [1] 1 (wX1_weights E) (x_out Q) <|
  o_i2d <|
  o_iload 1 <|
  o_i2d <|
  o_ddiv <|
  (bX0_meanWeight_27 E Q)
def bX0_meanWeight_0 (E : Nat → Value) (Q : Rs → HS → Prop) : Ct :=
  o_aload 0 <|
  o_getf [0] 1 <|
  o_callV [1] 1 (wX1_arcs E) (x_out Q) <|
  o_istore 1 <|
  o_iload 1 <|
  o_ifne (bX0_meanWeight_16 E Q) <|
  o_push (.double FP.dconst0) <|
  (bX0_meanWeight_27 E Q)
def wX0_meanWeight (E : Nat → Value) : Wp := fun av h Q => match av with
  | [a0] => bX0_meanWeight_0 E Q [a0, jk] [] h
  | _ => False
set_option maxHeartbeats 4000000 in
theorem tX0_meanWeight_27 {x : CX} {E : Nat → Value} {Q : Rs → HS → Prop} (EN : EX x E) (G : Gd x cX0_meanWeight "ChantRules" yX0_meanWeight 2 (Option.some Jvm.ClassFile.FieldType.double) Q) (hF : x.1.2.2.2.frames = 6 ∧ x.1.2.2.2.locals = 149) (hC : x.2.2.2.2.2 = (fun _ => false)) (hxt : (∀ z ∈ x.2.2.1.2.1.exceptionTable.toList, False)) : Snd x 27 (bX0_meanWeight_27 E Q) := by
  unfold bX0_meanWeight_27
  exact s_dreturn G dX0_meanWeight_27
set_option maxHeartbeats 4000000 in
theorem tX0_meanWeight_16 {x : CX} {E : Nat → Value} {Q : Rs → HS → Prop} (EN : EX x E) (G : Gd x cX0_meanWeight "ChantRules" yX0_meanWeight 2 (Option.some Jvm.ClassFile.FieldType.double) Q) (hF : x.1.2.2.2.frames = 6 ∧ x.1.2.2.2.locals = 149) (hC : x.2.2.2.2.2 = (fun _ => false)) (hxt : (∀ z ∈ x.2.2.1.2.1.exceptionTable.toList, False)) : Snd x 16 (bX0_meanWeight_16 E Q) := by
  unfold bX0_meanWeight_16
  refine s_aload_n rfl G.b dX0_meanWeight_16 ?_
  refine s_getf G.b G.ow G.kn (G.hts _ q300) (fun _ h => h) fa_11 dX0_meanWeight_17 ?_
  refine s_callV G (mX1_weights EN) q1811 q1812 (sel_cons (r := (RX1, TX1, 4)) (by decide) rfl q1813 (sel_nil)) q77 q1814 nmk_26 (rm_of hF (Nat.le_of_ble_eq_true rfl) (Nat.le_of_ble_eq_true rfl)) dX0_meanWeight_20 ?_ (sx_out G (fun z hz => (hxt z hz).elim))
  refine s_i2d G.b dX0_meanWeight_23 ?_
  refine s_iload_n rfl G.b dX0_meanWeight_24 ?_
  refine s_i2d G.b dX0_meanWeight_25 ?_
  refine s_ddiv G.b dX0_meanWeight_26 ?_
  exact (tX0_meanWeight_27 EN G hF hC hxt)
set_option maxHeartbeats 4000000 in
theorem tX0_meanWeight_0 {x : CX} {E : Nat → Value} {Q : Rs → HS → Prop} (EN : EX x E) (G : Gd x cX0_meanWeight "ChantRules" yX0_meanWeight 2 (Option.some Jvm.ClassFile.FieldType.double) Q) (hF : x.1.2.2.2.frames = 6 ∧ x.1.2.2.2.locals = 149) (hC : x.2.2.2.2.2 = (fun _ => false)) (hxt : (∀ z ∈ x.2.2.1.2.1.exceptionTable.toList, False)) : Snd x 0 (bX0_meanWeight_0 E Q) := by
  unfold bX0_meanWeight_0
  refine s_aload_n rfl G.b dX0_meanWeight_0 ?_
  refine s_getf G.b G.ow G.kn (G.hts _ q300) (fun _ h => h) fa_11 dX0_meanWeight_1 ?_
  refine s_callV G (mX1_arcs EN) q1854 q1835 (sel_cons (r := (RX1, TX1, 4)) (by decide) rfl q1836 (sel_nil)) q77 q1837 nmk_186 (rm_of hF (Nat.le_of_ble_eq_true rfl) (Nat.le_of_ble_eq_true rfl)) dX0_meanWeight_4 ?_ (sx_out G (fun z hz => (hxt z hz).elim))
  refine s_istore_n rfl G.b (by rw [G.nl]; decide) (fun _ _ => by rw [hC]) dX0_meanWeight_7 ?_
  refine s_iload_n rfl G.b dX0_meanWeight_8 ?_
  refine s_ifne (tgt := 16) G.b dX0_meanWeight_9 (by decide) (tX0_meanWeight_16 EN G hF hC hxt) ?_
  refine s_dconst0 G.b dX0_meanWeight_12 ?_
  exact s_goto (tgt := 27) G.b dX0_meanWeight_13 (by decide) (tX0_meanWeight_27 EN G hF hC hxt)
set_option maxHeartbeats 4000000 in
theorem mX0_meanWeight {l : Launch} {D : DE} {s0 : State} {E : Nat → Value} (EN : EV l D s0 E) : rMet l D s0 yX0_meanWeight (ws_ yX0_meanWeight cX0_meanWeight 2 (Option.some Jvm.ClassFile.FieldType.double)) 6 149 (wX0_meanWeight E) := by
  refine body_met (fun _ => false) EN.kn (fun w h => h) (by decide +kernel) rfl (fun av h Q hw => ?_) ?_
  · unfold wX0_meanWeight at hw
    split at hw
    · exact Nat.le_of_ble_eq_true rfl
    · exact hw.elim
  · intro p e s m below meth c av h Q hxt G hw
    unfold wX0_meanWeight at hw
    split at hw
    · exact tX0_meanWeight_0 EN G ⟨rfl, rfl⟩ rfl hxt _ _ _ hw
    · exact hw.elim
/-! ChantRules$Rule.isAhead(II)Z (X3_isAhead) -/
def bX3_isAhead_151 (E : Nat → Value) (Q : Rs → HS → Prop) : Ct :=
  o_ireturn .boolean Q
def bX3_isAhead_150 (E : Nat → Value) (Q : Rs → HS → Prop) : Ct :=
  o_push (.int 0) <|
  (bX3_isAhead_151 E Q)
def bX3_isAhead_141 (E : Nat → Value) (Q : Rs → HS → Prop) : Ct :=
  o_iload 1 <|
  o_iload 2 <|
  o_icmpge (bX3_isAhead_150 E Q) <|
  o_push (.int 1) <|
  (bX3_isAhead_151 E Q)
def bX3_isAhead_137 (E : Nat → Value) (Q : Rs → HS → Prop) : Ct :=
  o_push (.int 0) <|
  (bX3_isAhead_151 E Q)
def bX3_isAhead_130 (E : Nat → Value) (Q : Rs → HS → Prop) : Ct :=
  o_icmpge (bX3_isAhead_137 E Q) <|
  o_push (.int 1) <|
  (bX3_isAhead_151 E Q)
def bX3_isAhead_123 (E : Nat → Value) (Q : Rs → HS → Prop) : Ct :=
  o_aload 4 <|
  o_vsel 1 [10] (o_callV [10] 1 (wX7_to E) (x_out Q) (bX3_isAhead_130 E Q)) (o_callV [11] 1 (wX8_to E) (x_out Q) (bX3_isAhead_130 E Q))
def bX3_isAhead_114 (E : Nat → Value) (Q : Rs → HS → Prop) : Ct :=
  o_icmpeq (bX3_isAhead_141 E Q) <|
  o_aload 3 <|
  o_vsel 1 [10] (o_callV [10] 1 (wX7_to E) (x_out Q) (bX3_isAhead_123 E Q)) (o_callV [11] 1 (wX8_to E) (x_out Q) (bX3_isAhead_123 E Q))
def bX3_isAhead_107 (E : Nat → Value) (Q : Rs → HS → Prop) : Ct :=
  o_aload 4 <|
  o_vsel 1 [10] (o_callV [10] 1 (wX7_to E) (x_out Q) (bX3_isAhead_114 E Q)) (o_callV [11] 1 (wX8_to E) (x_out Q) (bX3_isAhead_114 E Q))
def bX3_isAhead_101 (E : Nat → Value) (Q : Rs → HS → Prop) : Ct :=
  o_aload 3 <|
  o_vsel 1 [10] (o_callV [10] 1 (wX7_to E) (x_out Q) (bX3_isAhead_107 E Q)) (o_callV [11] 1 (wX8_to E) (x_out Q) (bX3_isAhead_107 E Q))
def bX3_isAhead_100 (E : Nat → Value) (Q : Rs → HS → Prop) : Ct :=
  o_ireturn .boolean Q
def bX3_isAhead_99 (E : Nat → Value) (Q : Rs → HS → Prop) : Ct :=
  o_push (.int 0) <|
  (bX3_isAhead_100 E Q)
def bX3_isAhead_92 (E : Nat → Value) (Q : Rs → HS → Prop) : Ct :=
  o_icmpge (bX3_isAhead_99 E Q) <|
  o_push (.int 1) <|
  (bX3_isAhead_100 E Q)
def bX3_isAhead_85 (E : Nat → Value) (Q : Rs → HS → Prop) : Ct :=
  o_aload 4 <|
  o_vsel 1 [10] (o_callV [10] 1 (wX7_from E) (x_out Q) (bX3_isAhead_92 E Q)) (o_callV [11] 1 (wX8_from E) (x_out Q) (bX3_isAhead_92 E Q))
def bX3_isAhead_76 (E : Nat → Value) (Q : Rs → HS → Prop) : Ct :=
  o_icmpeq (bX3_isAhead_101 E Q) <|
  o_aload 3 <|
  o_vsel 1 [10] (o_callV [10] 1 (wX7_from E) (x_out Q) (bX3_isAhead_85 E Q)) (o_callV [11] 1 (wX8_from E) (x_out Q) (bX3_isAhead_85 E Q))
def bX3_isAhead_69 (E : Nat → Value) (Q : Rs → HS → Prop) : Ct :=
  o_aload 4 <|
  o_vsel 1 [10] (o_callV [10] 1 (wX7_from E) (x_out Q) (bX3_isAhead_76 E Q)) (o_callV [11] 1 (wX8_from E) (x_out Q) (bX3_isAhead_76 E Q))
def bX3_isAhead_63 (E : Nat → Value) (Q : Rs → HS → Prop) : Ct :=
  o_aload 3 <|
  o_vsel 1 [10] (o_callV [10] 1 (wX7_from E) (x_out Q) (bX3_isAhead_69 E Q)) (o_callV [11] 1 (wX8_from E) (x_out Q) (bX3_isAhead_69 E Q))
def bX3_isAhead_62 (E : Nat → Value) (Q : Rs → HS → Prop) : Ct :=
  o_ireturn .boolean Q
def bX3_isAhead_61 (E : Nat → Value) (Q : Rs → HS → Prop) : Ct :=
  o_push (.int 0) <|
  (bX3_isAhead_62 E Q)
def bX3_isAhead_54 (E : Nat → Value) (Q : Rs → HS → Prop) : Ct :=
  o_icmple (bX3_isAhead_61 E Q) <|
  o_push (.int 1) <|
  (bX3_isAhead_62 E Q)
def bX3_isAhead_47 (E : Nat → Value) (Q : Rs → HS → Prop) : Ct :=
  o_aload 4 <|
  o_vsel 1 [10] (o_callV [10] 1 (wX7_weight E) (x_out Q) (bX3_isAhead_54 E Q)) (o_callV [11] 1 (wX8_weight E) (x_out Q) (bX3_isAhead_54 E Q))
def bX3_isAhead_38 (E : Nat → Value) (Q : Rs → HS → Prop) : Ct :=
  o_icmpeq (bX3_isAhead_63 E Q) <|
  o_aload 3 <|
  o_vsel 1 [10] (o_callV [10] 1 (wX7_weight E) (x_out Q) (bX3_isAhead_47 E Q)) (o_callV [11] 1 (wX8_weight E) (x_out Q) (bX3_isAhead_47 E Q))
def bX3_isAhead_31 (E : Nat → Value) (Q : Rs → HS → Prop) : Ct :=
  o_aload 4 <|
  o_vsel 1 [10] (o_callV [10] 1 (wX7_weight E) (x_out Q) (bX3_isAhead_38 E Q)) (o_callV [11] 1 (wX8_weight E) (x_out Q) (bX3_isAhead_38 E Q))
def bX3_isAhead_0 (E : Nat → Value) (Q : Rs → HS → Prop) : Ct :=
  o_aload 0 <|
  o_getf [2] 0 <|
  o_iload 1 <|
  o_callV [15] 2 (wJ2_get E) (x_out Q) <|
  o_cast [10, 11] <|
  o_astore 3 <|
  o_aload 0 <|
  o_getf [2] 0 <|
  o_iload 2 <|
  o_callV [15] 2 (wJ2_get E) (x_out Q) <|
  o_cast [10, 11] <|
  o_astore 4 <|
  o_aload 3 <|
  o_vsel 1 [10] (o_callV [10] 1 (wX7_weight E) (x_out Q) (bX3_isAhead_31 E Q)) (o_callV [11] 1 (wX8_weight E) (x_out Q) (bX3_isAhead_31 E Q))
def wX3_isAhead (E : Nat → Value) : Wp := fun av h Q => match av with
  | [a0, a1, a2] => bX3_isAhead_0 E Q [a0, a1, a2, jk, jk] [] h
  | _ => False
set_option maxHeartbeats 4000000 in
theorem tX3_isAhead_151 {x : CX} {E : Nat → Value} {Q : Rs → HS → Prop} (EN : EX x E) (G : Gd x cX3_isAhead "ChantRules$Rule" yX3_isAhead 5 (Option.some Jvm.ClassFile.FieldType.boolean) Q) (hF : x.1.2.2.2.frames = 5 ∧ x.1.2.2.2.locals = 128) (hC : x.2.2.2.2.2 = (fun _ => false)) (hxt : (∀ z ∈ x.2.2.1.2.1.exceptionTable.toList, False)) : Snd x 151 (bX3_isAhead_151 E Q) := by
  unfold bX3_isAhead_151
  exact s_ireturn G dX3_isAhead_151
set_option maxHeartbeats 4000000 in
theorem tX3_isAhead_150 {x : CX} {E : Nat → Value} {Q : Rs → HS → Prop} (EN : EX x E) (G : Gd x cX3_isAhead "ChantRules$Rule" yX3_isAhead 5 (Option.some Jvm.ClassFile.FieldType.boolean) Q) (hF : x.1.2.2.2.frames = 5 ∧ x.1.2.2.2.locals = 128) (hC : x.2.2.2.2.2 = (fun _ => false)) (hxt : (∀ z ∈ x.2.2.1.2.1.exceptionTable.toList, False)) : Snd x 150 (bX3_isAhead_150 E Q) := by
  unfold bX3_isAhead_150
  refine s_iconst (by decide) G.b dX3_isAhead_150 ?_
  exact (tX3_isAhead_151 EN G hF hC hxt)
set_option maxHeartbeats 4000000 in
theorem tX3_isAhead_141 {x : CX} {E : Nat → Value} {Q : Rs → HS → Prop} (EN : EX x E) (G : Gd x cX3_isAhead "ChantRules$Rule" yX3_isAhead 5 (Option.some Jvm.ClassFile.FieldType.boolean) Q) (hF : x.1.2.2.2.frames = 5 ∧ x.1.2.2.2.locals = 128) (hC : x.2.2.2.2.2 = (fun _ => false)) (hxt : (∀ z ∈ x.2.2.1.2.1.exceptionTable.toList, False)) : Snd x 141 (bX3_isAhead_141 E Q) := by
  unfold bX3_isAhead_141
  refine s_iload_n rfl G.b dX3_isAhead_141 ?_
  refine s_iload_n rfl G.b dX3_isAhead_142 ?_
  refine s_icmpge (tgt := 150) G.b dX3_isAhead_143 (by decide) (tX3_isAhead_150 EN G hF hC hxt) ?_
  refine s_iconst (by decide) G.b dX3_isAhead_146 ?_
  exact s_goto (tgt := 151) G.b dX3_isAhead_147 (by decide) (tX3_isAhead_151 EN G hF hC hxt)
set_option maxHeartbeats 4000000 in
theorem tX3_isAhead_137 {x : CX} {E : Nat → Value} {Q : Rs → HS → Prop} (EN : EX x E) (G : Gd x cX3_isAhead "ChantRules$Rule" yX3_isAhead 5 (Option.some Jvm.ClassFile.FieldType.boolean) Q) (hF : x.1.2.2.2.frames = 5 ∧ x.1.2.2.2.locals = 128) (hC : x.2.2.2.2.2 = (fun _ => false)) (hxt : (∀ z ∈ x.2.2.1.2.1.exceptionTable.toList, False)) : Snd x 137 (bX3_isAhead_137 E Q) := by
  unfold bX3_isAhead_137
  refine s_iconst (by decide) G.b dX3_isAhead_137 ?_
  exact s_goto (tgt := 151) G.b dX3_isAhead_138 (by decide) (tX3_isAhead_151 EN G hF hC hxt)
set_option maxHeartbeats 4000000 in
theorem tX3_isAhead_130 {x : CX} {E : Nat → Value} {Q : Rs → HS → Prop} (EN : EX x E) (G : Gd x cX3_isAhead "ChantRules$Rule" yX3_isAhead 5 (Option.some Jvm.ClassFile.FieldType.boolean) Q) (hF : x.1.2.2.2.frames = 5 ∧ x.1.2.2.2.locals = 128) (hC : x.2.2.2.2.2 = (fun _ => false)) (hxt : (∀ z ∈ x.2.2.1.2.1.exceptionTable.toList, False)) : Snd x 130 (bX3_isAhead_130 E Q) := by
  unfold bX3_isAhead_130
  refine s_icmpge (tgt := 137) G.b dX3_isAhead_130 (by decide) (tX3_isAhead_137 EN G hF hC hxt) ?_
  refine s_iconst (by decide) G.b dX3_isAhead_133 ?_
  exact s_goto (tgt := 151) G.b dX3_isAhead_134 (by decide) (tX3_isAhead_151 EN G hF hC hxt)
set_option maxHeartbeats 4000000 in
theorem tX3_isAhead_123 {x : CX} {E : Nat → Value} {Q : Rs → HS → Prop} (EN : EX x E) (G : Gd x cX3_isAhead "ChantRules$Rule" yX3_isAhead 5 (Option.some Jvm.ClassFile.FieldType.boolean) Q) (hF : x.1.2.2.2.frames = 5 ∧ x.1.2.2.2.locals = 128) (hC : x.2.2.2.2.2 = (fun _ => false)) (hxt : (∀ z ∈ x.2.2.1.2.1.exceptionTable.toList, False)) : Snd x 123 (bX3_isAhead_123 E Q) := by
  unfold bX3_isAhead_123
  refine s_aload G.b dX3_isAhead_123 ?_
  exact (s_vsel (s_callF (r0 := (RX7, TX7, 4)) (w := ⟨"ChantRules$Arc", "to", "()I"⟩) (by decide) rfl G (mX7_to EN) q841 (va_Fw.moved (by decide +kernel) G.warm.alike ⟨(EN.nw q726 rfl), (EN.nw q725 rfl), (EN.nw q730 rfl), (EN.nw q728 rfl), (EN.nw q287 rfl)⟩) q727 q729 q99 q731 nmk_69 (rm_of hF (Nat.le_of_ble_eq_true rfl) (Nat.le_of_ble_eq_true rfl)) dX3_isAhead_125 (tX3_isAhead_130 EN G hF hC hxt) (sx_out G (fun z hz => (hxt z hz).elim)) ) (s_callF (r0 := (RX8, TX8, 5)) (w := ⟨"ChantRules$Arc", "to", "()I"⟩) (by decide) rfl G (mX8_to EN) q841 (va_Fw.moved (by decide +kernel) G.warm.alike ⟨(EN.nw q726 rfl), (EN.nw q725 rfl), (EN.nw q735 rfl), (EN.nw q733 rfl), (EN.nw q293 rfl)⟩) q732 q734 q100 q736 nmk_69 (rm_of hF (Nat.le_of_ble_eq_true rfl) (Nat.le_of_ble_eq_true rfl)) dX3_isAhead_125 (tX3_isAhead_130 EN G hF hC hxt) (sx_out G (fun z hz => (hxt z hz).elim)) ))
set_option maxHeartbeats 4000000 in
theorem tX3_isAhead_114 {x : CX} {E : Nat → Value} {Q : Rs → HS → Prop} (EN : EX x E) (G : Gd x cX3_isAhead "ChantRules$Rule" yX3_isAhead 5 (Option.some Jvm.ClassFile.FieldType.boolean) Q) (hF : x.1.2.2.2.frames = 5 ∧ x.1.2.2.2.locals = 128) (hC : x.2.2.2.2.2 = (fun _ => false)) (hxt : (∀ z ∈ x.2.2.1.2.1.exceptionTable.toList, False)) : Snd x 114 (bX3_isAhead_114 E Q) := by
  unfold bX3_isAhead_114
  refine s_icmpeq (tgt := 141) G.b dX3_isAhead_114 (by decide) (tX3_isAhead_141 EN G hF hC hxt) ?_
  refine s_aload_n rfl G.b dX3_isAhead_117 ?_
  exact (s_vsel (s_callF (r0 := (RX7, TX7, 4)) (w := ⟨"ChantRules$Arc", "to", "()I"⟩) (by decide) rfl G (mX7_to EN) q841 (va_Fw.moved (by decide +kernel) G.warm.alike ⟨(EN.nw q726 rfl), (EN.nw q725 rfl), (EN.nw q730 rfl), (EN.nw q728 rfl), (EN.nw q287 rfl)⟩) q727 q729 q99 q731 nmk_69 (rm_of hF (Nat.le_of_ble_eq_true rfl) (Nat.le_of_ble_eq_true rfl)) dX3_isAhead_118 (tX3_isAhead_123 EN G hF hC hxt) (sx_out G (fun z hz => (hxt z hz).elim)) ) (s_callF (r0 := (RX8, TX8, 5)) (w := ⟨"ChantRules$Arc", "to", "()I"⟩) (by decide) rfl G (mX8_to EN) q841 (va_Fw.moved (by decide +kernel) G.warm.alike ⟨(EN.nw q726 rfl), (EN.nw q725 rfl), (EN.nw q735 rfl), (EN.nw q733 rfl), (EN.nw q293 rfl)⟩) q732 q734 q100 q736 nmk_69 (rm_of hF (Nat.le_of_ble_eq_true rfl) (Nat.le_of_ble_eq_true rfl)) dX3_isAhead_118 (tX3_isAhead_123 EN G hF hC hxt) (sx_out G (fun z hz => (hxt z hz).elim)) ))
set_option maxHeartbeats 4000000 in
theorem tX3_isAhead_107 {x : CX} {E : Nat → Value} {Q : Rs → HS → Prop} (EN : EX x E) (G : Gd x cX3_isAhead "ChantRules$Rule" yX3_isAhead 5 (Option.some Jvm.ClassFile.FieldType.boolean) Q) (hF : x.1.2.2.2.frames = 5 ∧ x.1.2.2.2.locals = 128) (hC : x.2.2.2.2.2 = (fun _ => false)) (hxt : (∀ z ∈ x.2.2.1.2.1.exceptionTable.toList, False)) : Snd x 107 (bX3_isAhead_107 E Q) := by
  unfold bX3_isAhead_107
  refine s_aload G.b dX3_isAhead_107 ?_
  exact (s_vsel (s_callF (r0 := (RX7, TX7, 4)) (w := ⟨"ChantRules$Arc", "to", "()I"⟩) (by decide) rfl G (mX7_to EN) q841 (va_Fw.moved (by decide +kernel) G.warm.alike ⟨(EN.nw q726 rfl), (EN.nw q725 rfl), (EN.nw q730 rfl), (EN.nw q728 rfl), (EN.nw q287 rfl)⟩) q727 q729 q99 q731 nmk_69 (rm_of hF (Nat.le_of_ble_eq_true rfl) (Nat.le_of_ble_eq_true rfl)) dX3_isAhead_109 (tX3_isAhead_114 EN G hF hC hxt) (sx_out G (fun z hz => (hxt z hz).elim)) ) (s_callF (r0 := (RX8, TX8, 5)) (w := ⟨"ChantRules$Arc", "to", "()I"⟩) (by decide) rfl G (mX8_to EN) q841 (va_Fw.moved (by decide +kernel) G.warm.alike ⟨(EN.nw q726 rfl), (EN.nw q725 rfl), (EN.nw q735 rfl), (EN.nw q733 rfl), (EN.nw q293 rfl)⟩) q732 q734 q100 q736 nmk_69 (rm_of hF (Nat.le_of_ble_eq_true rfl) (Nat.le_of_ble_eq_true rfl)) dX3_isAhead_109 (tX3_isAhead_114 EN G hF hC hxt) (sx_out G (fun z hz => (hxt z hz).elim)) ))
set_option maxHeartbeats 4000000 in
theorem tX3_isAhead_101 {x : CX} {E : Nat → Value} {Q : Rs → HS → Prop} (EN : EX x E) (G : Gd x cX3_isAhead "ChantRules$Rule" yX3_isAhead 5 (Option.some Jvm.ClassFile.FieldType.boolean) Q) (hF : x.1.2.2.2.frames = 5 ∧ x.1.2.2.2.locals = 128) (hC : x.2.2.2.2.2 = (fun _ => false)) (hxt : (∀ z ∈ x.2.2.1.2.1.exceptionTable.toList, False)) : Snd x 101 (bX3_isAhead_101 E Q) := by
  unfold bX3_isAhead_101
  refine s_aload_n rfl G.b dX3_isAhead_101 ?_
  exact (s_vsel (s_callF (r0 := (RX7, TX7, 4)) (w := ⟨"ChantRules$Arc", "to", "()I"⟩) (by decide) rfl G (mX7_to EN) q841 (va_Fw.moved (by decide +kernel) G.warm.alike ⟨(EN.nw q726 rfl), (EN.nw q725 rfl), (EN.nw q730 rfl), (EN.nw q728 rfl), (EN.nw q287 rfl)⟩) q727 q729 q99 q731 nmk_69 (rm_of hF (Nat.le_of_ble_eq_true rfl) (Nat.le_of_ble_eq_true rfl)) dX3_isAhead_102 (tX3_isAhead_107 EN G hF hC hxt) (sx_out G (fun z hz => (hxt z hz).elim)) ) (s_callF (r0 := (RX8, TX8, 5)) (w := ⟨"ChantRules$Arc", "to", "()I"⟩) (by decide) rfl G (mX8_to EN) q841 (va_Fw.moved (by decide +kernel) G.warm.alike ⟨(EN.nw q726 rfl), (EN.nw q725 rfl), (EN.nw q735 rfl), (EN.nw q733 rfl), (EN.nw q293 rfl)⟩) q732 q734 q100 q736 nmk_69 (rm_of hF (Nat.le_of_ble_eq_true rfl) (Nat.le_of_ble_eq_true rfl)) dX3_isAhead_102 (tX3_isAhead_107 EN G hF hC hxt) (sx_out G (fun z hz => (hxt z hz).elim)) ))
set_option maxHeartbeats 4000000 in
theorem tX3_isAhead_100 {x : CX} {E : Nat → Value} {Q : Rs → HS → Prop} (EN : EX x E) (G : Gd x cX3_isAhead "ChantRules$Rule" yX3_isAhead 5 (Option.some Jvm.ClassFile.FieldType.boolean) Q) (hF : x.1.2.2.2.frames = 5 ∧ x.1.2.2.2.locals = 128) (hC : x.2.2.2.2.2 = (fun _ => false)) (hxt : (∀ z ∈ x.2.2.1.2.1.exceptionTable.toList, False)) : Snd x 100 (bX3_isAhead_100 E Q) := by
  unfold bX3_isAhead_100
  exact s_ireturn G dX3_isAhead_100
set_option maxHeartbeats 4000000 in
theorem tX3_isAhead_99 {x : CX} {E : Nat → Value} {Q : Rs → HS → Prop} (EN : EX x E) (G : Gd x cX3_isAhead "ChantRules$Rule" yX3_isAhead 5 (Option.some Jvm.ClassFile.FieldType.boolean) Q) (hF : x.1.2.2.2.frames = 5 ∧ x.1.2.2.2.locals = 128) (hC : x.2.2.2.2.2 = (fun _ => false)) (hxt : (∀ z ∈ x.2.2.1.2.1.exceptionTable.toList, False)) : Snd x 99 (bX3_isAhead_99 E Q) := by
  unfold bX3_isAhead_99
  refine s_iconst (by decide) G.b dX3_isAhead_99 ?_
  exact (tX3_isAhead_100 EN G hF hC hxt)
set_option maxHeartbeats 4000000 in
theorem tX3_isAhead_92 {x : CX} {E : Nat → Value} {Q : Rs → HS → Prop} (EN : EX x E) (G : Gd x cX3_isAhead "ChantRules$Rule" yX3_isAhead 5 (Option.some Jvm.ClassFile.FieldType.boolean) Q) (hF : x.1.2.2.2.frames = 5 ∧ x.1.2.2.2.locals = 128) (hC : x.2.2.2.2.2 = (fun _ => false)) (hxt : (∀ z ∈ x.2.2.1.2.1.exceptionTable.toList, False)) : Snd x 92 (bX3_isAhead_92 E Q) := by
  unfold bX3_isAhead_92
  refine s_icmpge (tgt := 99) G.b dX3_isAhead_92 (by decide) (tX3_isAhead_99 EN G hF hC hxt) ?_
  refine s_iconst (by decide) G.b dX3_isAhead_95 ?_
  exact s_goto (tgt := 100) G.b dX3_isAhead_96 (by decide) (tX3_isAhead_100 EN G hF hC hxt)
set_option maxHeartbeats 4000000 in
theorem tX3_isAhead_85 {x : CX} {E : Nat → Value} {Q : Rs → HS → Prop} (EN : EX x E) (G : Gd x cX3_isAhead "ChantRules$Rule" yX3_isAhead 5 (Option.some Jvm.ClassFile.FieldType.boolean) Q) (hF : x.1.2.2.2.frames = 5 ∧ x.1.2.2.2.locals = 128) (hC : x.2.2.2.2.2 = (fun _ => false)) (hxt : (∀ z ∈ x.2.2.1.2.1.exceptionTable.toList, False)) : Snd x 85 (bX3_isAhead_85 E Q) := by
  unfold bX3_isAhead_85
  refine s_aload G.b dX3_isAhead_85 ?_
  exact (s_vsel (s_callF (r0 := (RX7, TX7, 4)) (w := ⟨"ChantRules$Arc", "from", "()I"⟩) (by decide) rfl G (mX7_from EN) q839 (va_Fw.moved (by decide +kernel) G.warm.alike ⟨(EN.nw q712 rfl), (EN.nw q711 rfl), (EN.nw q716 rfl), (EN.nw q714 rfl), (EN.nw q287 rfl)⟩) q713 q715 q99 q717 nmk_70 (rm_of hF (Nat.le_of_ble_eq_true rfl) (Nat.le_of_ble_eq_true rfl)) dX3_isAhead_87 (tX3_isAhead_92 EN G hF hC hxt) (sx_out G (fun z hz => (hxt z hz).elim)) ) (s_callF (r0 := (RX8, TX8, 5)) (w := ⟨"ChantRules$Arc", "from", "()I"⟩) (by decide) rfl G (mX8_from EN) q839 (va_Fw.moved (by decide +kernel) G.warm.alike ⟨(EN.nw q712 rfl), (EN.nw q711 rfl), (EN.nw q721 rfl), (EN.nw q719 rfl), (EN.nw q293 rfl)⟩) q718 q720 q100 q722 nmk_70 (rm_of hF (Nat.le_of_ble_eq_true rfl) (Nat.le_of_ble_eq_true rfl)) dX3_isAhead_87 (tX3_isAhead_92 EN G hF hC hxt) (sx_out G (fun z hz => (hxt z hz).elim)) ))
set_option maxHeartbeats 4000000 in
theorem tX3_isAhead_76 {x : CX} {E : Nat → Value} {Q : Rs → HS → Prop} (EN : EX x E) (G : Gd x cX3_isAhead "ChantRules$Rule" yX3_isAhead 5 (Option.some Jvm.ClassFile.FieldType.boolean) Q) (hF : x.1.2.2.2.frames = 5 ∧ x.1.2.2.2.locals = 128) (hC : x.2.2.2.2.2 = (fun _ => false)) (hxt : (∀ z ∈ x.2.2.1.2.1.exceptionTable.toList, False)) : Snd x 76 (bX3_isAhead_76 E Q) := by
  unfold bX3_isAhead_76
  refine s_icmpeq (tgt := 101) G.b dX3_isAhead_76 (by decide) (tX3_isAhead_101 EN G hF hC hxt) ?_
  refine s_aload_n rfl G.b dX3_isAhead_79 ?_
  exact (s_vsel (s_callF (r0 := (RX7, TX7, 4)) (w := ⟨"ChantRules$Arc", "from", "()I"⟩) (by decide) rfl G (mX7_from EN) q839 (va_Fw.moved (by decide +kernel) G.warm.alike ⟨(EN.nw q712 rfl), (EN.nw q711 rfl), (EN.nw q716 rfl), (EN.nw q714 rfl), (EN.nw q287 rfl)⟩) q713 q715 q99 q717 nmk_70 (rm_of hF (Nat.le_of_ble_eq_true rfl) (Nat.le_of_ble_eq_true rfl)) dX3_isAhead_80 (tX3_isAhead_85 EN G hF hC hxt) (sx_out G (fun z hz => (hxt z hz).elim)) ) (s_callF (r0 := (RX8, TX8, 5)) (w := ⟨"ChantRules$Arc", "from", "()I"⟩) (by decide) rfl G (mX8_from EN) q839 (va_Fw.moved (by decide +kernel) G.warm.alike ⟨(EN.nw q712 rfl), (EN.nw q711 rfl), (EN.nw q721 rfl), (EN.nw q719 rfl), (EN.nw q293 rfl)⟩) q718 q720 q100 q722 nmk_70 (rm_of hF (Nat.le_of_ble_eq_true rfl) (Nat.le_of_ble_eq_true rfl)) dX3_isAhead_80 (tX3_isAhead_85 EN G hF hC hxt) (sx_out G (fun z hz => (hxt z hz).elim)) ))
set_option maxHeartbeats 4000000 in
theorem tX3_isAhead_69 {x : CX} {E : Nat → Value} {Q : Rs → HS → Prop} (EN : EX x E) (G : Gd x cX3_isAhead "ChantRules$Rule" yX3_isAhead 5 (Option.some Jvm.ClassFile.FieldType.boolean) Q) (hF : x.1.2.2.2.frames = 5 ∧ x.1.2.2.2.locals = 128) (hC : x.2.2.2.2.2 = (fun _ => false)) (hxt : (∀ z ∈ x.2.2.1.2.1.exceptionTable.toList, False)) : Snd x 69 (bX3_isAhead_69 E Q) := by
  unfold bX3_isAhead_69
  refine s_aload G.b dX3_isAhead_69 ?_
  exact (s_vsel (s_callF (r0 := (RX7, TX7, 4)) (w := ⟨"ChantRules$Arc", "from", "()I"⟩) (by decide) rfl G (mX7_from EN) q839 (va_Fw.moved (by decide +kernel) G.warm.alike ⟨(EN.nw q712 rfl), (EN.nw q711 rfl), (EN.nw q716 rfl), (EN.nw q714 rfl), (EN.nw q287 rfl)⟩) q713 q715 q99 q717 nmk_70 (rm_of hF (Nat.le_of_ble_eq_true rfl) (Nat.le_of_ble_eq_true rfl)) dX3_isAhead_71 (tX3_isAhead_76 EN G hF hC hxt) (sx_out G (fun z hz => (hxt z hz).elim)) ) (s_callF (r0 := (RX8, TX8, 5)) (w := ⟨"ChantRules$Arc", "from", "()I"⟩) (by decide) rfl G (mX8_from EN) q839 (va_Fw.moved (by decide +kernel) G.warm.alike ⟨(EN.nw q712 rfl), (EN.nw q711 rfl), (EN.nw q721 rfl), (EN.nw q719 rfl), (EN.nw q293 rfl)⟩) q718 q720 q100 q722 nmk_70 (rm_of hF (Nat.le_of_ble_eq_true rfl) (Nat.le_of_ble_eq_true rfl)) dX3_isAhead_71 (tX3_isAhead_76 EN G hF hC hxt) (sx_out G (fun z hz => (hxt z hz).elim)) ))
set_option maxHeartbeats 4000000 in
theorem tX3_isAhead_63 {x : CX} {E : Nat → Value} {Q : Rs → HS → Prop} (EN : EX x E) (G : Gd x cX3_isAhead "ChantRules$Rule" yX3_isAhead 5 (Option.some Jvm.ClassFile.FieldType.boolean) Q) (hF : x.1.2.2.2.frames = 5 ∧ x.1.2.2.2.locals = 128) (hC : x.2.2.2.2.2 = (fun _ => false)) (hxt : (∀ z ∈ x.2.2.1.2.1.exceptionTable.toList, False)) : Snd x 63 (bX3_isAhead_63 E Q) := by
  unfold bX3_isAhead_63
  refine s_aload_n rfl G.b dX3_isAhead_63 ?_
  exact (s_vsel (s_callF (r0 := (RX7, TX7, 4)) (w := ⟨"ChantRules$Arc", "from", "()I"⟩) (by decide) rfl G (mX7_from EN) q839 (va_Fw.moved (by decide +kernel) G.warm.alike ⟨(EN.nw q712 rfl), (EN.nw q711 rfl), (EN.nw q716 rfl), (EN.nw q714 rfl), (EN.nw q287 rfl)⟩) q713 q715 q99 q717 nmk_70 (rm_of hF (Nat.le_of_ble_eq_true rfl) (Nat.le_of_ble_eq_true rfl)) dX3_isAhead_64 (tX3_isAhead_69 EN G hF hC hxt) (sx_out G (fun z hz => (hxt z hz).elim)) ) (s_callF (r0 := (RX8, TX8, 5)) (w := ⟨"ChantRules$Arc", "from", "()I"⟩) (by decide) rfl G (mX8_from EN) q839 (va_Fw.moved (by decide +kernel) G.warm.alike ⟨(EN.nw q712 rfl), (EN.nw q711 rfl), (EN.nw q721 rfl), (EN.nw q719 rfl), (EN.nw q293 rfl)⟩) q718 q720 q100 q722 nmk_70 (rm_of hF (Nat.le_of_ble_eq_true rfl) (Nat.le_of_ble_eq_true rfl)) dX3_isAhead_64 (tX3_isAhead_69 EN G hF hC hxt) (sx_out G (fun z hz => (hxt z hz).elim)) ))
set_option maxHeartbeats 4000000 in
theorem tX3_isAhead_62 {x : CX} {E : Nat → Value} {Q : Rs → HS → Prop} (EN : EX x E) (G : Gd x cX3_isAhead "ChantRules$Rule" yX3_isAhead 5 (Option.some Jvm.ClassFile.FieldType.boolean) Q) (hF : x.1.2.2.2.frames = 5 ∧ x.1.2.2.2.locals = 128) (hC : x.2.2.2.2.2 = (fun _ => false)) (hxt : (∀ z ∈ x.2.2.1.2.1.exceptionTable.toList, False)) : Snd x 62 (bX3_isAhead_62 E Q) := by
  unfold bX3_isAhead_62
  exact s_ireturn G dX3_isAhead_62
set_option maxHeartbeats 4000000 in
theorem tX3_isAhead_61 {x : CX} {E : Nat → Value} {Q : Rs → HS → Prop} (EN : EX x E) (G : Gd x cX3_isAhead "ChantRules$Rule" yX3_isAhead 5 (Option.some Jvm.ClassFile.FieldType.boolean) Q) (hF : x.1.2.2.2.frames = 5 ∧ x.1.2.2.2.locals = 128) (hC : x.2.2.2.2.2 = (fun _ => false)) (hxt : (∀ z ∈ x.2.2.1.2.1.exceptionTable.toList, False)) : Snd x 61 (bX3_isAhead_61 E Q) := by
  unfold bX3_isAhead_61
  refine s_iconst (by decide) G.b dX3_isAhead_61 ?_
  exact (tX3_isAhead_62 EN G hF hC hxt)
set_option maxHeartbeats 4000000 in
theorem tX3_isAhead_54 {x : CX} {E : Nat → Value} {Q : Rs → HS → Prop} (EN : EX x E) (G : Gd x cX3_isAhead "ChantRules$Rule" yX3_isAhead 5 (Option.some Jvm.ClassFile.FieldType.boolean) Q) (hF : x.1.2.2.2.frames = 5 ∧ x.1.2.2.2.locals = 128) (hC : x.2.2.2.2.2 = (fun _ => false)) (hxt : (∀ z ∈ x.2.2.1.2.1.exceptionTable.toList, False)) : Snd x 54 (bX3_isAhead_54 E Q) := by
  unfold bX3_isAhead_54
  refine s_icmple (tgt := 61) G.b dX3_isAhead_54 (by decide) (tX3_isAhead_61 EN G hF hC hxt) ?_
  refine s_iconst (by decide) G.b dX3_isAhead_57 ?_
  exact s_goto (tgt := 62) G.b dX3_isAhead_58 (by decide) (tX3_isAhead_62 EN G hF hC hxt)
set_option maxHeartbeats 4000000 in
theorem tX3_isAhead_47 {x : CX} {E : Nat → Value} {Q : Rs → HS → Prop} (EN : EX x E) (G : Gd x cX3_isAhead "ChantRules$Rule" yX3_isAhead 5 (Option.some Jvm.ClassFile.FieldType.boolean) Q) (hF : x.1.2.2.2.frames = 5 ∧ x.1.2.2.2.locals = 128) (hC : x.2.2.2.2.2 = (fun _ => false)) (hxt : (∀ z ∈ x.2.2.1.2.1.exceptionTable.toList, False)) : Snd x 47 (bX3_isAhead_47 E Q) := by
  unfold bX3_isAhead_47
  refine s_aload G.b dX3_isAhead_47 ?_
  exact (s_vsel (s_callF (r0 := (RX7, TX7, 4)) (w := ⟨"ChantRules$Arc", "weight", "()I"⟩) (by decide) rfl G (mX7_weight EN) q768 (va_Fw.moved (by decide +kernel) G.warm.alike ⟨(EN.nw q770 rfl), (EN.nw q769 rfl), (EN.nw q774 rfl), (EN.nw q772 rfl), (EN.nw q287 rfl)⟩) q771 q773 q99 q775 nmk_17 (rm_of hF (Nat.le_of_ble_eq_true rfl) (Nat.le_of_ble_eq_true rfl)) dX3_isAhead_49 (tX3_isAhead_54 EN G hF hC hxt) (sx_out G (fun z hz => (hxt z hz).elim)) ) (s_callF (r0 := (RX8, TX8, 5)) (w := ⟨"ChantRules$Arc", "weight", "()I"⟩) (by decide) rfl G (mX8_weight EN) q768 (va_Fw.moved (by decide +kernel) G.warm.alike ⟨(EN.nw q770 rfl), (EN.nw q769 rfl), (EN.nw q779 rfl), (EN.nw q777 rfl), (EN.nw q293 rfl)⟩) q776 q778 q100 q780 nmk_17 (rm_of hF (Nat.le_of_ble_eq_true rfl) (Nat.le_of_ble_eq_true rfl)) dX3_isAhead_49 (tX3_isAhead_54 EN G hF hC hxt) (sx_out G (fun z hz => (hxt z hz).elim)) ))
set_option maxHeartbeats 4000000 in
theorem tX3_isAhead_38 {x : CX} {E : Nat → Value} {Q : Rs → HS → Prop} (EN : EX x E) (G : Gd x cX3_isAhead "ChantRules$Rule" yX3_isAhead 5 (Option.some Jvm.ClassFile.FieldType.boolean) Q) (hF : x.1.2.2.2.frames = 5 ∧ x.1.2.2.2.locals = 128) (hC : x.2.2.2.2.2 = (fun _ => false)) (hxt : (∀ z ∈ x.2.2.1.2.1.exceptionTable.toList, False)) : Snd x 38 (bX3_isAhead_38 E Q) := by
  unfold bX3_isAhead_38
  refine s_icmpeq (tgt := 63) G.b dX3_isAhead_38 (by decide) (tX3_isAhead_63 EN G hF hC hxt) ?_
  refine s_aload_n rfl G.b dX3_isAhead_41 ?_
  exact (s_vsel (s_callF (r0 := (RX7, TX7, 4)) (w := ⟨"ChantRules$Arc", "weight", "()I"⟩) (by decide) rfl G (mX7_weight EN) q768 (va_Fw.moved (by decide +kernel) G.warm.alike ⟨(EN.nw q770 rfl), (EN.nw q769 rfl), (EN.nw q774 rfl), (EN.nw q772 rfl), (EN.nw q287 rfl)⟩) q771 q773 q99 q775 nmk_17 (rm_of hF (Nat.le_of_ble_eq_true rfl) (Nat.le_of_ble_eq_true rfl)) dX3_isAhead_42 (tX3_isAhead_47 EN G hF hC hxt) (sx_out G (fun z hz => (hxt z hz).elim)) ) (s_callF (r0 := (RX8, TX8, 5)) (w := ⟨"ChantRules$Arc", "weight", "()I"⟩) (by decide) rfl G (mX8_weight EN) q768 (va_Fw.moved (by decide +kernel) G.warm.alike ⟨(EN.nw q770 rfl), (EN.nw q769 rfl), (EN.nw q779 rfl), (EN.nw q777 rfl), (EN.nw q293 rfl)⟩) q776 q778 q100 q780 nmk_17 (rm_of hF (Nat.le_of_ble_eq_true rfl) (Nat.le_of_ble_eq_true rfl)) dX3_isAhead_42 (tX3_isAhead_47 EN G hF hC hxt) (sx_out G (fun z hz => (hxt z hz).elim)) ))
set_option maxHeartbeats 4000000 in
theorem tX3_isAhead_31 {x : CX} {E : Nat → Value} {Q : Rs → HS → Prop} (EN : EX x E) (G : Gd x cX3_isAhead "ChantRules$Rule" yX3_isAhead 5 (Option.some Jvm.ClassFile.FieldType.boolean) Q) (hF : x.1.2.2.2.frames = 5 ∧ x.1.2.2.2.locals = 128) (hC : x.2.2.2.2.2 = (fun _ => false)) (hxt : (∀ z ∈ x.2.2.1.2.1.exceptionTable.toList, False)) : Snd x 31 (bX3_isAhead_31 E Q) := by
  unfold bX3_isAhead_31
  refine s_aload G.b dX3_isAhead_31 ?_
  exact (s_vsel (s_callF (r0 := (RX7, TX7, 4)) (w := ⟨"ChantRules$Arc", "weight", "()I"⟩) (by decide) rfl G (mX7_weight EN) q768 (va_Fw.moved (by decide +kernel) G.warm.alike ⟨(EN.nw q770 rfl), (EN.nw q769 rfl), (EN.nw q774 rfl), (EN.nw q772 rfl), (EN.nw q287 rfl)⟩) q771 q773 q99 q775 nmk_17 (rm_of hF (Nat.le_of_ble_eq_true rfl) (Nat.le_of_ble_eq_true rfl)) dX3_isAhead_33 (tX3_isAhead_38 EN G hF hC hxt) (sx_out G (fun z hz => (hxt z hz).elim)) ) (s_callF (r0 := (RX8, TX8, 5)) (w := ⟨"ChantRules$Arc", "weight", "()I"⟩) (by decide) rfl G (mX8_weight EN) q768 (va_Fw.moved (by decide +kernel) G.warm.alike ⟨(EN.nw q770 rfl), (EN.nw q769 rfl), (EN.nw q779 rfl), (EN.nw q777 rfl), (EN.nw q293 rfl)⟩) q776 q778 q100 q780 nmk_17 (rm_of hF (Nat.le_of_ble_eq_true rfl) (Nat.le_of_ble_eq_true rfl)) dX3_isAhead_33 (tX3_isAhead_38 EN G hF hC hxt) (sx_out G (fun z hz => (hxt z hz).elim)) ))
set_option maxHeartbeats 4000000 in
theorem tX3_isAhead_0 {x : CX} {E : Nat → Value} {Q : Rs → HS → Prop} (EN : EX x E) (G : Gd x cX3_isAhead "ChantRules$Rule" yX3_isAhead 5 (Option.some Jvm.ClassFile.FieldType.boolean) Q) (hF : x.1.2.2.2.frames = 5 ∧ x.1.2.2.2.locals = 128) (hC : x.2.2.2.2.2 = (fun _ => false)) (hxt : (∀ z ∈ x.2.2.1.2.1.exceptionTable.toList, False)) : Snd x 0 (bX3_isAhead_0 E Q) := by
  unfold bX3_isAhead_0
  refine s_aload_n rfl G.b dX3_isAhead_0 ?_
  refine s_getf G.b G.ow G.kn (G.hts _ q175) (fun _ h => h) fa_3 dX3_isAhead_1 ?_
  refine s_iload_n rfl G.b dX3_isAhead_4 ?_
  refine s_callV G (mJ2_get EN) q692 q693 (sel_cons (r := (RJ2, TJ2, 3)) (by decide) rfl q694 (sel_nil)) q82 q695 nmk_78 (rm_of hF (Nat.le_of_ble_eq_true rfl) (Nat.le_of_ble_eq_true rfl)) dX3_isAhead_5 ?_ (sx_out G (fun z hz => (hxt z hz).elim))
  refine s_cast G.b G.ow G.kn G.hts q400 ct_1 dX3_isAhead_8 ?_
  refine s_astore_n rfl G.b (by rw [G.nl]; decide) (fun _ _ => by rw [hC]) dX3_isAhead_11 ?_
  refine s_aload_n rfl G.b dX3_isAhead_12 ?_
  refine s_getf G.b G.ow G.kn (G.hts _ q175) (fun _ h => h) fa_3 dX3_isAhead_13 ?_
  refine s_iload_n rfl G.b dX3_isAhead_16 ?_
  refine s_callV G (mJ2_get EN) q692 q693 (sel_cons (r := (RJ2, TJ2, 3)) (by decide) rfl q694 (sel_nil)) q82 q695 nmk_78 (rm_of hF (Nat.le_of_ble_eq_true rfl) (Nat.le_of_ble_eq_true rfl)) dX3_isAhead_17 ?_ (sx_out G (fun z hz => (hxt z hz).elim))
  refine s_cast G.b G.ow G.kn G.hts q400 ct_1 dX3_isAhead_20 ?_
  refine s_astore G.b (by rw [G.nl]; decide) (fun _ _ => by rw [hC]) dX3_isAhead_23 ?_
  refine s_aload_n rfl G.b dX3_isAhead_25 ?_
  exact (s_vsel (s_callF (r0 := (RX7, TX7, 4)) (w := ⟨"ChantRules$Arc", "weight", "()I"⟩) (by decide) rfl G (mX7_weight EN) q768 (va_Fw.moved (by decide +kernel) G.warm.alike ⟨(EN.nw q770 rfl), (EN.nw q769 rfl), (EN.nw q774 rfl), (EN.nw q772 rfl), (EN.nw q287 rfl)⟩) q771 q773 q99 q775 nmk_17 (rm_of hF (Nat.le_of_ble_eq_true rfl) (Nat.le_of_ble_eq_true rfl)) dX3_isAhead_26 (tX3_isAhead_31 EN G hF hC hxt) (sx_out G (fun z hz => (hxt z hz).elim)) ) (s_callF (r0 := (RX8, TX8, 5)) (w := ⟨"ChantRules$Arc", "weight", "()I"⟩) (by decide) rfl G (mX8_weight EN) q768 (va_Fw.moved (by decide +kernel) G.warm.alike ⟨(EN.nw q770 rfl), (EN.nw q769 rfl), (EN.nw q779 rfl), (EN.nw q777 rfl), (EN.nw q293 rfl)⟩) q776 q778 q100 q780 nmk_17 (rm_of hF (Nat.le_of_ble_eq_true rfl) (Nat.le_of_ble_eq_true rfl)) dX3_isAhead_26 (tX3_isAhead_31 EN G hF hC hxt) (sx_out G (fun z hz => (hxt z hz).elim)) ))
set_option maxHeartbeats 4000000 in
theorem mX3_isAhead {l : Launch} {D : DE} {s0 : State} {E : Nat → Value} (EN : EV l D s0 E) : rMet l D s0 yX3_isAhead (ws_ yX3_isAhead cX3_isAhead 5 (Option.some Jvm.ClassFile.FieldType.boolean)) 5 128 (wX3_isAhead E) := by
  refine body_met (fun _ => false) EN.kn (fun w h => h) (by decide +kernel) rfl (fun av h Q hw => ?_) ?_
  · unfold wX3_isAhead at hw
    split at hw
    · exact Nat.le_of_ble_eq_true rfl
    · exact hw.elim
  · intro p e s m below meth c av h Q hxt G hw
    unfold wX3_isAhead at hw
    split at hw
    · exact tX3_isAhead_0 EN G ⟨rfl, rfl⟩ rfl hxt _ _ _ hw
    · exact hw.elim
