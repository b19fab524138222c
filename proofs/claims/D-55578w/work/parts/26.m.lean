set_option maxRecDepth 100000
/-! ChantRules.singBoth()I (X0_singBoth) -/
def bX0_singBoth_34 (E : Nat → Value) (Q : Rs → HS → Prop) : Ct :=
  o_ireturn .int Q
def bX0_singBoth_32 (E : Nat → Value) (Q : Rs → HS → Prop) : Ct :=
  o_push (.int (-12)) <|
  (bX0_singBoth_34 E Q)
def bX0_singBoth_0 (E : Nat → Value) (Q : Rs → HS → Prop) : Ct :=
  o_aload 0 <|
  o_callV [0] 1 (wX0_isWord E) (x_out Q) <|
  o_ifeq (bX0_singBoth_32 E Q) <|
  o_aload 0 <|
  o_aload 0 <|
  o_getf [0] 1 <|
  o_aload 0 <|
  o_getf [0] 0 <|
  o_callV [1] 2 (wX1_composed E) (x_out Q) <|
  o_aload 0 <|
  o_getf [0] 8 <|
  o_callV [4] 2 (wX2_reads E) (x_out Q) <|
  o_callV [0] 2 (wX0_sung E) (x_out Q) <|
  (bX0_singBoth_34 E Q)
def wX0_singBoth (E : Nat → Value) : Wp := fun av h Q => match av with
  | [a0] => bX0_singBoth_0 E Q [a0] [] h
  | _ => False
set_option maxHeartbeats 4000000 in
theorem tX0_singBoth_34 {x : CX} {E : Nat → Value} {Q : Rs → HS → Prop} (EN : EX x E) (G : Gd x cX0_singBoth "ChantRules" yX0_singBoth 1 (Option.some Jvm.ClassFile.FieldType.int) Q) (hF : x.1.2.2.2.frames = 415 ∧ x.1.2.2.2.locals = 9014) (hC : x.2.2.2.2.2 = (fun _ => false)) (hxt : (∀ z ∈ x.2.2.1.2.1.exceptionTable.toList, False)) : Snd x 34 (bX0_singBoth_34 E Q) := by
  unfold bX0_singBoth_34
  exact s_ireturn G dX0_singBoth_34
set_option maxHeartbeats 4000000 in
theorem tX0_singBoth_32 {x : CX} {E : Nat → Value} {Q : Rs → HS → Prop} (EN : EX x E) (G : Gd x cX0_singBoth "ChantRules" yX0_singBoth 1 (Option.some Jvm.ClassFile.FieldType.int) Q) (hF : x.1.2.2.2.frames = 415 ∧ x.1.2.2.2.locals = 9014) (hC : x.2.2.2.2.2 = (fun _ => false)) (hxt : (∀ z ∈ x.2.2.1.2.1.exceptionTable.toList, False)) : Snd x 32 (bX0_singBoth_32 E Q) := by
  unfold bX0_singBoth_32
  refine s_bipush (by decide) G.b dX0_singBoth_32 ?_
  exact (tX0_singBoth_34 EN G hF hC hxt)
set_option maxHeartbeats 4000000 in
theorem tX0_singBoth_0 {x : CX} {E : Nat → Value} {Q : Rs → HS → Prop} (EN : EX x E) (G : Gd x cX0_singBoth "ChantRules" yX0_singBoth 1 (Option.some Jvm.ClassFile.FieldType.int) Q) (hF : x.1.2.2.2.frames = 415 ∧ x.1.2.2.2.locals = 9014) (hC : x.2.2.2.2.2 = (fun _ => false)) (hxt : (∀ z ∈ x.2.2.1.2.1.exceptionTable.toList, False)) : Snd x 0 (bX0_singBoth_0 E Q) := by
  unfold bX0_singBoth_0
  refine s_aload_n rfl G.b dX0_singBoth_0 ?_
  refine s_callV G (mX0_isWord EN) q932 q934 (sel_cons (r := (RX0, TX0, 10)) (by decide) rfl qs10 (sel_nil)) q76 q935 nmk_118 (rm_of hF (Nat.le_of_ble_eq_true rfl) (Nat.le_of_ble_eq_true rfl)) dX0_singBoth_1 ?_ (sx_out G (fun z hz => (hxt z hz).elim))
  refine s_ifeq (tgt := 32) G.b dX0_singBoth_4 (by decide) (tX0_singBoth_32 EN G hF hC hxt) ?_
  refine s_aload_n rfl G.b dX0_singBoth_7 ?_
  refine s_aload_n rfl G.b dX0_singBoth_8 ?_
  refine s_getf G.b G.ow G.kn (G.hts _ q300) (fun _ h => h) fa_11 dX0_singBoth_9 ?_
  refine s_aload_n rfl G.b dX0_singBoth_12 ?_
  refine s_getf G.b G.ow G.kn (G.hts _ q299) (fun _ h => h) fa_10 dX0_singBoth_13 ?_
  refine s_callV G (mX1_composed EN) q1241 q1242 (sel_cons (r := (RX1, TX1, 4)) (by decide) rfl q1243 (sel_nil)) q77 q1244 nmk_119 (rm_of hF (Nat.le_of_ble_eq_true rfl) (Nat.le_of_ble_eq_true rfl)) dX0_singBoth_16 ?_ (sx_out G (fun z hz => (hxt z hz).elim))
  refine s_aload_n rfl G.b dX0_singBoth_19 ?_
  refine s_getf G.b G.ow G.kn (G.hts _ q307) (fun _ h => h) fa_13 dX0_singBoth_20 ?_
  refine s_callVU (w := ⟨"ChantRules$Composed", "reads", "(Ljava/lang/CharSequence;)LChantRules$Way;"⟩) (owner := "ChantRules$Machine") G (mX2_reads EN) q1298 q1299 (va_Decl.of (G.hts _ q973) (G.hts _ q974)) (by decide +kernel) q973 (sel_cons (r := (RX11, TX11, 3)) (by decide) rfl q1300 (sel_nil)) q78 q974 nmk_120 (rm_of hF (Nat.le_of_ble_eq_true rfl) (Nat.le_of_ble_eq_true rfl)) dX0_singBoth_23 ?_ (sx_out G (fun z hz => (hxt z hz).elim))
  refine s_callV G (mX0_sung EN) q1094 q1096 (sel_cons (r := (RX0, TX0, 10)) (by decide) rfl qs11 (sel_nil)) q76 q1097 nmk_229 (rm_of hF (Nat.le_of_ble_eq_true rfl) (Nat.le_of_ble_eq_true rfl)) dX0_singBoth_26 ?_ (sx_out G (fun z hz => (hxt z hz).elim))
  exact s_goto (tgt := 34) G.b dX0_singBoth_29 (by decide) (tX0_singBoth_34 EN G hF hC hxt)
set_option maxHeartbeats 4000000 in
theorem mX0_singBoth {l : Launch} {D : DE} {s0 : State} {E : Nat → Value} (EN : EV l D s0 E) : rMet l D s0 yX0_singBoth (ws_ yX0_singBoth cX0_singBoth 1 (Option.some Jvm.ClassFile.FieldType.int)) 415 9014 (wX0_singBoth E) := by
  refine body_met (fun _ => false) EN.kn (fun w h => h) (by decide +kernel) rfl (fun av h Q hw => ?_) ?_
  · unfold wX0_singBoth at hw
    split at hw
    · exact Nat.le_of_ble_eq_true rfl
    · exact hw.elim
  · intro p e s m below meth c av h Q hxt G hw
    unfold wX0_singBoth at hw
    split at hw
    · exact tX0_singBoth_0 EN G ⟨rfl, rfl⟩ rfl hxt _ _ _ hw
    · exact hw.elim
/-! ChantRules.state(I)I (X0_state) -/
def bX0_state_36 (E : Nat → Value) (Q : Rs → HS → Prop) : Ct :=
  o_astore 3 <|
  o_aload 0 <|
  o_aload 3 <|
  o_callV [0] 2 (wX0_refused E) (x_out Q) <|
  o_ireturn .int Q
def bX0_state_10 (E : Nat → Value) (Q : Rs → HS → Prop) : Ct :=
  o_aload 0 <|
  o_getf [0] 1 <|
  o_callV [1] 1 (wX1_copy E) (x_out Q) <|
  o_astore 2 <|
  o_aload 0 <|
  o_aload 2 <|
  o_aload 0 <|
  o_getf [0] 1 <|
  o_getf [1] 0 <|
  o_iload 1 <|
  o_ald [103, 104, 105, 106, 107] <|
  o_callV [2] 1 (wX3_tells E) (x_catch [9] (bX0_state_36 E Q) x_no) <|
  o_callV [0] 3 (wX0_changed E) (x_catch [9] (bX0_state_36 E Q) x_no) <|
  o_ireturn .int Q
def bX0_state_0 (E : Nat → Value) (Q : Rs → HS → Prop) : Ct :=
  o_iload 1 <|
  o_call 1 (wX0_isRule E) (x_out Q) <|
  o_ifne (bX0_state_10 E Q) <|
  o_push (.int (-11)) <|
  o_ireturn .int Q
def wX0_state (E : Nat → Value) : Wp := fun av h Q => match av with
  | [a0, a1] => bX0_state_0 E Q [a0, a1, jk, jk] [] h
  | _ => False
set_option maxHeartbeats 4000000 in
theorem tX0_state_36 {x : CX} {E : Nat → Value} {Q : Rs → HS → Prop} (EN : EX x E) (G : Gd x cX0_state "ChantRules" yX0_state 4 (Option.some Jvm.ClassFile.FieldType.int) Q) (hF : x.1.2.2.2.frames = 16 ∧ x.1.2.2.2.locals = 376) (hC : x.2.2.2.2.2 = (fun _ => false)) (hxt : (x.2.2.1.2.1.exceptionTable.toList = tableOf [(18, 35, 36, 60)])) : Snd x 36 (bX0_state_36 E Q) := by
  unfold bX0_state_36
  refine s_astore_n rfl G.b (by rw [G.nl]; decide) (fun _ _ => by rw [hC]) dX0_state_36 ?_
  refine s_aload_n rfl G.b dX0_state_37 ?_
  refine s_aload_n rfl G.b dX0_state_38 ?_
  refine s_callV G (mX0_refused EN) q588 q590 (sel_cons (r := (RX0, TX0, 10)) (by decide) rfl qs7 (sel_nil)) q76 q591 nmk_81 (rm_of hF (Nat.le_of_ble_eq_true rfl) (Nat.le_of_ble_eq_true rfl)) dX0_state_39 ?_ (sx_out G (by rw [hxt]; decide +kernel))
  exact s_ireturn G dX0_state_42
set_option maxHeartbeats 4000000 in
theorem tX0_state_10 {x : CX} {E : Nat → Value} {Q : Rs → HS → Prop} (EN : EX x E) (G : Gd x cX0_state "ChantRules" yX0_state 4 (Option.some Jvm.ClassFile.FieldType.int) Q) (hF : x.1.2.2.2.frames = 16 ∧ x.1.2.2.2.locals = 376) (hC : x.2.2.2.2.2 = (fun _ => false)) (hxt : (x.2.2.1.2.1.exceptionTable.toList = tableOf [(18, 35, 36, 60)])) : Snd x 10 (bX0_state_10 E Q) := by
  unfold bX0_state_10
  refine s_aload_n rfl G.b dX0_state_10 ?_
  refine s_getf G.b G.ow G.kn (G.hts _ q300) (fun _ h => h) fa_11 dX0_state_11 ?_
  refine s_callV G (mX1_copy EN) q342 q343 (sel_cons (r := (RX1, TX1, 4)) (by decide) rfl q344 (sel_nil)) q77 q345 nmk_82 (rm_of hF (Nat.le_of_ble_eq_true rfl) (Nat.le_of_ble_eq_true rfl)) dX0_state_14 ?_ (sx_out G (by rw [hxt]; decide +kernel))
  refine s_astore_n rfl G.b (by rw [G.nl]; decide) (fun _ _ => by rw [hC]) dX0_state_17 ?_
  refine s_aload_n rfl G.b dX0_state_18 ?_
  refine s_aload_n rfl G.b dX0_state_19 ?_
  refine s_aload_n rfl G.b dX0_state_20 ?_
  refine s_getf G.b G.ow G.kn (G.hts _ q300) (fun _ h => h) fa_11 dX0_state_21 ?_
  refine s_getfN G.b G.ow G.kn (va_Nw.use rfl (va_Nw.warmF G.warm (EN.nw q194 rfl))) (fun _ h => h) fa_5 dX0_state_24 ?_
  refine s_iload_n rfl G.b dX0_state_27 ?_
  refine s_aald G.b G.kn dX0_state_28 ?_
  refine s_callV G (mX3_tells EN) q470 q471 (sel_cons (r := (RX3, TX3, 3)) (by decide) rfl q472 (sel_nil)) q79 q473 nmk_147 (rm_of hF (Nat.le_of_ble_eq_true rfl) (Nat.le_of_ble_eq_true rfl)) dX0_state_29 ?_ (sx_catch G [] (⟨18, 35, 36, 60⟩ : ExceptionTableEntry) [] (by rw [hxt]; rfl) (fun w hw => nomatch hw) (by decide +kernel) (by decide) q335 ct_5 (tX0_state_36 EN G hF hC hxt) sx_no)
  refine s_callV G (mX0_changed EN) q547 q549 (sel_cons (r := (RX0, TX0, 10)) (by decide) rfl qs4 (sel_nil)) q76 q550 nmk_85 (rm_of hF (Nat.le_of_ble_eq_true rfl) (Nat.le_of_ble_eq_true rfl)) dX0_state_32 ?_ (sx_catch G [] (⟨18, 35, 36, 60⟩ : ExceptionTableEntry) [] (by rw [hxt]; rfl) (fun w hw => nomatch hw) (by decide +kernel) (by decide) q335 ct_5 (tX0_state_36 EN G hF hC hxt) sx_no)
  exact s_ireturn G dX0_state_35
set_option maxHeartbeats 4000000 in
theorem tX0_state_0 {x : CX} {E : Nat → Value} {Q : Rs → HS → Prop} (EN : EX x E) (G : Gd x cX0_state "ChantRules" yX0_state 4 (Option.some Jvm.ClassFile.FieldType.int) Q) (hF : x.1.2.2.2.frames = 16 ∧ x.1.2.2.2.locals = 376) (hC : x.2.2.2.2.2 = (fun _ => false)) (hxt : (x.2.2.1.2.1.exceptionTable.toList = tableOf [(18, 35, 36, 60)])) : Snd x 0 (bX0_state_0 E Q) := by
  unfold bX0_state_0
  refine s_iload_n rfl G.b dX0_state_0 ?_
  refine s_callS G (mX0_isRule EN) q336 q337 q76 q338 nmk_66 (rm_of hF (Nat.le_of_ble_eq_true rfl) (Nat.le_of_ble_eq_true rfl)) dX0_state_1 ?_ (sx_out G (by rw [hxt]; decide +kernel))
  refine s_ifne (tgt := 10) G.b dX0_state_4 (by decide) (tX0_state_10 EN G hF hC hxt) ?_
  refine s_bipush (by decide) G.b dX0_state_7 ?_
  exact s_ireturn G dX0_state_9
set_option maxHeartbeats 4000000 in
theorem mX0_state {l : Launch} {D : DE} {s0 : State} {E : Nat → Value} (EN : EV l D s0 E) : rMet l D s0 yX0_state (wsW_ yX0_state cX0_state 4 (Option.some Jvm.ClassFile.FieldType.int) [(18, 35, 36, 60)]) 16 376 (wX0_state E) := by
  refine body_metW (fun _ => false) EN.kn (fun w h => h) (by decide +kernel) rfl (fun av h Q hw => ?_) ?_
  · unfold wX0_state at hw
    split at hw
    · exact Nat.le_of_ble_eq_true rfl
    · exact hw.elim
  · intro p e s m below meth c av h Q hxt G hw
    unfold wX0_state at hw
    split at hw
    · exact tX0_state_0 EN G ⟨rfl, rfl⟩ rfl hxt _ _ _ hw
    · exact hw.elim
/-! ChantRules$Machine.useful(I)I (X2_useful) -/
def bX2_useful_14 (E : Nat → Value) (Q : Rs → HS → Prop) : Ct :=
  o_ireturn .int Q
def bX2_useful_13 (E : Nat → Value) (Q : Rs → HS → Prop) : Ct :=
  o_push (.int 0) <|
  (bX2_useful_14 E Q)
def bX2_useful_0 (E : Nat → Value) (Q : Rs → HS → Prop) : Ct :=
  o_aload 0 <|
  o_callV [2, 4] 1 (wX2_useful_2 E) (x_out Q) <|
  o_iload 1 <|
  o_ald [101, 102] <|
  o_ifeq (bX2_useful_13 E Q) <|
  o_push (.int 1) <|
  (bX2_useful_14 E Q)
def wX2_useful (E : Nat → Value) : Wp := fun av h Q => match av with
  | [a0, a1] => bX2_useful_0 E Q [a0, a1] [] h
  | _ => False
set_option maxHeartbeats 4000000 in
theorem tX2_useful_14 {x : CX} {E : Nat → Value} {Q : Rs → HS → Prop} (EN : EX x E) (G : Gd x cX2_useful "ChantRules$Machine" yX2_useful 2 (Option.some Jvm.ClassFile.FieldType.int) Q) (hF : x.1.2.2.2.frames = 7 ∧ x.1.2.2.2.locals = 178) (hC : x.2.2.2.2.2 = (fun _ => false)) (hxt : (∀ z ∈ x.2.2.1.2.1.exceptionTable.toList, False)) : Snd x 14 (bX2_useful_14 E Q) := by
  unfold bX2_useful_14
  exact s_ireturn G dX2_useful_14
set_option maxHeartbeats 4000000 in
theorem tX2_useful_13 {x : CX} {E : Nat → Value} {Q : Rs → HS → Prop} (EN : EX x E) (G : Gd x cX2_useful "ChantRules$Machine" yX2_useful 2 (Option.some Jvm.ClassFile.FieldType.int) Q) (hF : x.1.2.2.2.frames = 7 ∧ x.1.2.2.2.locals = 178) (hC : x.2.2.2.2.2 = (fun _ => false)) (hxt : (∀ z ∈ x.2.2.1.2.1.exceptionTable.toList, False)) : Snd x 13 (bX2_useful_13 E Q) := by
  unfold bX2_useful_13
  refine s_iconst (by decide) G.b dX2_useful_13 ?_
  exact (tX2_useful_14 EN G hF hC hxt)
set_option maxHeartbeats 4000000 in
theorem tX2_useful_0 {x : CX} {E : Nat → Value} {Q : Rs → HS → Prop} (EN : EX x E) (G : Gd x cX2_useful "ChantRules$Machine" yX2_useful 2 (Option.some Jvm.ClassFile.FieldType.int) Q) (hF : x.1.2.2.2.frames = 7 ∧ x.1.2.2.2.locals = 178) (hC : x.2.2.2.2.2 = (fun _ => false)) (hxt : (∀ z ∈ x.2.2.1.2.1.exceptionTable.toList, False)) : Snd x 0 (bX2_useful_0 E Q) := by
  unfold bX2_useful_0
  refine s_aload_n rfl G.b dX2_useful_0 ?_
  refine s_callV G (mX2_useful_2 EN) q901 q902 (sel_cons (r := (RX3, TX3, 3)) (by decide) rfl q905 (sel_cons (r := (RX11, TX11, 3)) (by decide) rfl q904 (sel_nil))) q78 q906 nmk_158 (rm_of hF (Nat.le_of_ble_eq_true rfl) (Nat.le_of_ble_eq_true rfl)) dX2_useful_1 ?_ (sx_out G (fun z hz => (hxt z hz).elim))
  refine s_iload_n rfl G.b dX2_useful_4 ?_
  refine s_bald G.b G.kn dX2_useful_5 ?_
  refine s_ifeq (tgt := 13) G.b dX2_useful_6 (by decide) (tX2_useful_13 EN G hF hC hxt) ?_
  refine s_iconst (by decide) G.b dX2_useful_9 ?_
  exact s_goto (tgt := 14) G.b dX2_useful_10 (by decide) (tX2_useful_14 EN G hF hC hxt)
set_option maxHeartbeats 4000000 in
theorem mX2_useful {l : Launch} {D : DE} {s0 : State} {E : Nat → Value} (EN : EV l D s0 E) : rMet l D s0 yX2_useful (ws_ yX2_useful cX2_useful 2 (Option.some Jvm.ClassFile.FieldType.int)) 7 178 (wX2_useful E) := by
  refine body_met (fun _ => false) EN.kn (fun w h => h) (by decide +kernel) rfl (fun av h Q hw => ?_) ?_
  · unfold wX2_useful at hw
    split at hw
    · exact Nat.le_of_ble_eq_true rfl
    · exact hw.elim
  · intro p e s m below meth c av h Q hxt G hw
    unfold wX2_useful at hw
    split at hw
    · exact tX2_useful_0 EN G ⟨rfl, rfl⟩ rfl hxt _ _ _ hw
    · exact hw.elim
/-! ChantRules$Rule.arcsAt(IZ)I (X3_arcsAt) -/
def bX3_arcsAt_69 (E : Nat → Value) (Q : Rs → HS → Prop) (X11 : Ct) : Ct :=
  o_iload 3 <|
  o_ireturn .int Q
def bX3_arcsAt_64 (E : Nat → Value) (Q : Rs → HS → Prop) (X11 : Ct) : Ct :=
  o_iadd <|
  o_istore 3 <|
  X11
def bX3_arcsAt_63 (E : Nat → Value) (Q : Rs → HS → Prop) (X11 : Ct) : Ct :=
  o_push (.int 0) <|
  (bX3_arcsAt_64 E Q X11)
def bX3_arcsAt_55 (E : Nat → Value) (Q : Rs → HS → Prop) (X11 : Ct) : Ct :=
  o_iload 1 <|
  o_icmpne (bX3_arcsAt_63 E Q X11) <|
  o_push (.int 1) <|
  (bX3_arcsAt_64 E Q X11)
def bX3_arcsAt_48 (E : Nat → Value) (Q : Rs → HS → Prop) (X11 : Ct) : Ct :=
  o_aload 5 <|
  o_vsel 1 [10] (o_callV [10] 1 (wX7_to E) (x_out Q) (bX3_arcsAt_55 E Q X11)) (o_callV [11] 1 (wX8_to E) (x_out Q) (bX3_arcsAt_55 E Q X11))
def bX3_arcsAt_45 (E : Nat → Value) (Q : Rs → HS → Prop) (X11 : Ct) : Ct :=
  (bX3_arcsAt_55 E Q X11)
def bX3_arcsAt_11 (E : Nat → Value) (Q : Rs → HS → Prop) (X11 : Ct) : Ct :=
  o_aload 4 <|
  o_callV [20] 1 (wJ9_hasNext E) (x_out Q) <|
  o_ifeq (bX3_arcsAt_69 E Q X11) <|
  o_aload 4 <|
  o_callV [20] 1 (wJ9_next E) (x_out Q) <|
  o_cast [10, 11] <|
  o_astore 5 <|
  o_iload 3 <|
  o_iload 2 <|
  o_ifeq (bX3_arcsAt_48 E Q X11) <|
  o_aload 5 <|
  o_vsel 1 [10] (o_callV [10] 1 (wX7_from E) (x_out Q) (bX3_arcsAt_45 E Q X11)) (o_callV [11] 1 (wX8_from E) (x_out Q) (bX3_arcsAt_45 E Q X11))
def bX3_arcsAt_0 (E : Nat → Value) (Q : Rs → HS → Prop) (X11 : Ct) : Ct :=
  o_push (.int 0) <|
  o_istore 3 <|
  o_aload 0 <|
  o_getf [2] 0 <|
  o_callV [15] 1 (wJ2_iterator E) (x_out Q) <|
  o_astore 4 <|
  X11
def wX3_arcsAt (E : Nat → Value) : Wp := fun av h Q => match av with
  | [a0, a1, a2] => ∀ X11 : Ct, (∀ ls st h, bX3_arcsAt_11 E Q X11 ls st h → X11 ls st h) → bX3_arcsAt_0 E Q X11 [a0, a1, a2, jk, jk, jk] [] h
  | _ => False
set_option maxHeartbeats 4000000 in
theorem tX3_arcsAt_69 {x : CX} {E : Nat → Value} {Q : Rs → HS → Prop} {X11 : Ct} (EN : EX x E) (G : Gd x cX3_arcsAt "ChantRules$Rule" yX3_arcsAt 6 (Option.some Jvm.ClassFile.FieldType.int) Q) (hF : x.1.2.2.2.frames = 4 ∧ x.1.2.2.2.locals = 106) (hC : x.2.2.2.2.2 = (fun _ => false)) (hxt : (∀ z ∈ x.2.2.1.2.1.exceptionTable.toList, False)) (h11 : Snd x 11 X11) : Snd x 69 (bX3_arcsAt_69 E Q X11) := by
  unfold bX3_arcsAt_69
  refine s_iload_n rfl G.b dX3_arcsAt_69 ?_
  exact s_ireturn G dX3_arcsAt_70
set_option maxHeartbeats 4000000 in
theorem tX3_arcsAt_64 {x : CX} {E : Nat → Value} {Q : Rs → HS → Prop} {X11 : Ct} (EN : EX x E) (G : Gd x cX3_arcsAt "ChantRules$Rule" yX3_arcsAt 6 (Option.some Jvm.ClassFile.FieldType.int) Q) (hF : x.1.2.2.2.frames = 4 ∧ x.1.2.2.2.locals = 106) (hC : x.2.2.2.2.2 = (fun _ => false)) (hxt : (∀ z ∈ x.2.2.1.2.1.exceptionTable.toList, False)) (h11 : Snd x 11 X11) : Snd x 64 (bX3_arcsAt_64 E Q X11) := by
  unfold bX3_arcsAt_64
  refine s_iadd G.b dX3_arcsAt_64 ?_
  refine s_istore_n rfl G.b (by rw [G.nl]; decide) (fun _ _ => by rw [hC]) dX3_arcsAt_65 ?_
  exact s_goto (tgt := 11) G.b dX3_arcsAt_66 (by decide) h11
set_option maxHeartbeats 4000000 in
theorem tX3_arcsAt_63 {x : CX} {E : Nat → Value} {Q : Rs → HS → Prop} {X11 : Ct} (EN : EX x E) (G : Gd x cX3_arcsAt "ChantRules$Rule" yX3_arcsAt 6 (Option.some Jvm.ClassFile.FieldType.int) Q) (hF : x.1.2.2.2.frames = 4 ∧ x.1.2.2.2.locals = 106) (hC : x.2.2.2.2.2 = (fun _ => false)) (hxt : (∀ z ∈ x.2.2.1.2.1.exceptionTable.toList, False)) (h11 : Snd x 11 X11) : Snd x 63 (bX3_arcsAt_63 E Q X11) := by
  unfold bX3_arcsAt_63
  refine s_iconst (by decide) G.b dX3_arcsAt_63 ?_
  exact (tX3_arcsAt_64 EN G hF hC hxt h11)
set_option maxHeartbeats 4000000 in
theorem tX3_arcsAt_55 {x : CX} {E : Nat → Value} {Q : Rs → HS → Prop} {X11 : Ct} (EN : EX x E) (G : Gd x cX3_arcsAt "ChantRules$Rule" yX3_arcsAt 6 (Option.some Jvm.ClassFile.FieldType.int) Q) (hF : x.1.2.2.2.frames = 4 ∧ x.1.2.2.2.locals = 106) (hC : x.2.2.2.2.2 = (fun _ => false)) (hxt : (∀ z ∈ x.2.2.1.2.1.exceptionTable.toList, False)) (h11 : Snd x 11 X11) : Snd x 55 (bX3_arcsAt_55 E Q X11) := by
  unfold bX3_arcsAt_55
  refine s_iload_n rfl G.b dX3_arcsAt_55 ?_
  refine s_icmpne (tgt := 63) G.b dX3_arcsAt_56 (by decide) (tX3_arcsAt_63 EN G hF hC hxt h11) ?_
  refine s_iconst (by decide) G.b dX3_arcsAt_59 ?_
  exact s_goto (tgt := 64) G.b dX3_arcsAt_60 (by decide) (tX3_arcsAt_64 EN G hF hC hxt h11)
set_option maxHeartbeats 4000000 in
theorem tX3_arcsAt_48 {x : CX} {E : Nat → Value} {Q : Rs → HS → Prop} {X11 : Ct} (EN : EX x E) (G : Gd x cX3_arcsAt "ChantRules$Rule" yX3_arcsAt 6 (Option.some Jvm.ClassFile.FieldType.int) Q) (hF : x.1.2.2.2.frames = 4 ∧ x.1.2.2.2.locals = 106) (hC : x.2.2.2.2.2 = (fun _ => false)) (hxt : (∀ z ∈ x.2.2.1.2.1.exceptionTable.toList, False)) (h11 : Snd x 11 X11) : Snd x 48 (bX3_arcsAt_48 E Q X11) := by
  unfold bX3_arcsAt_48
  refine s_aload G.b dX3_arcsAt_48 ?_
  exact (s_vsel (s_callF (r0 := (RX7, TX7, 4)) (w := ⟨"ChantRules$Arc", "to", "()I"⟩) (by decide) rfl G (mX7_to EN) q841 (va_Fw.moved (by decide +kernel) G.warm.alike ⟨(EN.nw q726 rfl), (EN.nw q725 rfl), (EN.nw q730 rfl), (EN.nw q728 rfl), (EN.nw q287 rfl)⟩) q727 q729 q99 q731 nmk_69 (rm_of hF (Nat.le_of_ble_eq_true rfl) (Nat.le_of_ble_eq_true rfl)) dX3_arcsAt_50 (tX3_arcsAt_55 EN G hF hC hxt h11) (sx_out G (fun z hz => (hxt z hz).elim)) ) (s_callF (r0 := (RX8, TX8, 5)) (w := ⟨"ChantRules$Arc", "to", "()I"⟩) (by decide) rfl G (mX8_to EN) q841 (va_Fw.moved (by decide +kernel) G.warm.alike ⟨(EN.nw q726 rfl), (EN.nw q725 rfl), (EN.nw q735 rfl), (EN.nw q733 rfl), (EN.nw q293 rfl)⟩) q732 q734 q100 q736 nmk_69 (rm_of hF (Nat.le_of_ble_eq_true rfl) (Nat.le_of_ble_eq_true rfl)) dX3_arcsAt_50 (tX3_arcsAt_55 EN G hF hC hxt h11) (sx_out G (fun z hz => (hxt z hz).elim)) ))
set_option maxHeartbeats 4000000 in
theorem tX3_arcsAt_45 {x : CX} {E : Nat → Value} {Q : Rs → HS → Prop} {X11 : Ct} (EN : EX x E) (G : Gd x cX3_arcsAt "ChantRules$Rule" yX3_arcsAt 6 (Option.some Jvm.ClassFile.FieldType.int) Q) (hF : x.1.2.2.2.frames = 4 ∧ x.1.2.2.2.locals = 106) (hC : x.2.2.2.2.2 = (fun _ => false)) (hxt : (∀ z ∈ x.2.2.1.2.1.exceptionTable.toList, False)) (h11 : Snd x 11 X11) : Snd x 45 (bX3_arcsAt_45 E Q X11) := by
  unfold bX3_arcsAt_45
  exact s_goto (tgt := 55) G.b dX3_arcsAt_45 (by decide) (tX3_arcsAt_55 EN G hF hC hxt h11)
set_option maxHeartbeats 4000000 in
theorem tX3_arcsAt_11 {x : CX} {E : Nat → Value} {Q : Rs → HS → Prop} {X11 : Ct} (EN : EX x E) (G : Gd x cX3_arcsAt "ChantRules$Rule" yX3_arcsAt 6 (Option.some Jvm.ClassFile.FieldType.int) Q) (hF : x.1.2.2.2.frames = 4 ∧ x.1.2.2.2.locals = 106) (hC : x.2.2.2.2.2 = (fun _ => false)) (hxt : (∀ z ∈ x.2.2.1.2.1.exceptionTable.toList, False)) (h11 : Snd x 11 X11) : Snd x 11 (bX3_arcsAt_11 E Q X11) := by
  unfold bX3_arcsAt_11
  refine s_aload G.b dX3_arcsAt_11 ?_
  refine s_callF (r0 := (RJ9, TJ9, 4)) (w := ⟨"java/util/Iterator", "hasNext", "()Z"⟩) (by decide) rfl G (mJ9_hasNext EN) q378 (va_Fw.moved (by decide +kernel) G.warm.alike ⟨(EN.nw q380 rfl), (EN.nw q379 rfl), (EN.nw q385 rfl), (EN.nw q383 rfl), (EN.nw q381 rfl)⟩) q382 q384 q91 q386 nmk_15 (rm_of hF (Nat.le_of_ble_eq_true rfl) (Nat.le_of_ble_eq_true rfl)) dX3_arcsAt_13 ?_ (sx_out G (fun z hz => (hxt z hz).elim))
  refine s_ifeq (tgt := 69) G.b dX3_arcsAt_18 (by decide) (tX3_arcsAt_69 EN G hF hC hxt h11) ?_
  refine s_aload G.b dX3_arcsAt_21 ?_
  refine s_callF (r0 := (RJ9, TJ9, 4)) (w := ⟨"java/util/Iterator", "next", "()Ljava/lang/Object;"⟩) (by decide) rfl G (mJ9_next EN) q388 (va_Fw.moved (by decide +kernel) G.warm.alike ⟨(EN.nw q390 rfl), (EN.nw q389 rfl), (EN.nw q394 rfl), (EN.nw q392 rfl), (EN.nw q381 rfl)⟩) q391 q393 q91 q395 nmk_16 (rm_of hF (Nat.le_of_ble_eq_true rfl) (Nat.le_of_ble_eq_true rfl)) dX3_arcsAt_23 ?_ (sx_out G (fun z hz => (hxt z hz).elim))
  refine s_cast G.b G.ow G.kn G.hts q400 ct_1 dX3_arcsAt_28 ?_
  refine s_astore G.b (by rw [G.nl]; decide) (fun _ _ => by rw [hC]) dX3_arcsAt_31 ?_
  refine s_iload_n rfl G.b dX3_arcsAt_33 ?_
  refine s_iload_n rfl G.b dX3_arcsAt_34 ?_
  refine s_ifeq (tgt := 48) G.b dX3_arcsAt_35 (by decide) (tX3_arcsAt_48 EN G hF hC hxt h11) ?_
  refine s_aload G.b dX3_arcsAt_38 ?_
  exact (s_vsel (s_callF (r0 := (RX7, TX7, 4)) (w := ⟨"ChantRules$Arc", "from", "()I"⟩) (by decide) rfl G (mX7_from EN) q839 (va_Fw.moved (by decide +kernel) G.warm.alike ⟨(EN.nw q712 rfl), (EN.nw q711 rfl), (EN.nw q716 rfl), (EN.nw q714 rfl), (EN.nw q287 rfl)⟩) q713 q715 q99 q717 nmk_70 (rm_of hF (Nat.le_of_ble_eq_true rfl) (Nat.le_of_ble_eq_true rfl)) dX3_arcsAt_40 (tX3_arcsAt_45 EN G hF hC hxt h11) (sx_out G (fun z hz => (hxt z hz).elim)) ) (s_callF (r0 := (RX8, TX8, 5)) (w := ⟨"ChantRules$Arc", "from", "()I"⟩) (by decide) rfl G (mX8_from EN) q839 (va_Fw.moved (by decide +kernel) G.warm.alike ⟨(EN.nw q712 rfl), (EN.nw q711 rfl), (EN.nw q721 rfl), (EN.nw q719 rfl), (EN.nw q293 rfl)⟩) q718 q720 q100 q722 nmk_70 (rm_of hF (Nat.le_of_ble_eq_true rfl) (Nat.le_of_ble_eq_true rfl)) dX3_arcsAt_40 (tX3_arcsAt_45 EN G hF hC hxt h11) (sx_out G (fun z hz => (hxt z hz).elim)) ))
set_option maxHeartbeats 4000000 in
theorem tX3_arcsAt_0 {x : CX} {E : Nat → Value} {Q : Rs → HS → Prop} {X11 : Ct} (EN : EX x E) (G : Gd x cX3_arcsAt "ChantRules$Rule" yX3_arcsAt 6 (Option.some Jvm.ClassFile.FieldType.int) Q) (hF : x.1.2.2.2.frames = 4 ∧ x.1.2.2.2.locals = 106) (hC : x.2.2.2.2.2 = (fun _ => false)) (hxt : (∀ z ∈ x.2.2.1.2.1.exceptionTable.toList, False)) (h11 : Snd x 11 X11) : Snd x 0 (bX3_arcsAt_0 E Q X11) := by
  unfold bX3_arcsAt_0
  refine s_iconst (by decide) G.b dX3_arcsAt_0 ?_
  refine s_istore_n rfl G.b (by rw [G.nl]; decide) (fun _ _ => by rw [hC]) dX3_arcsAt_1 ?_
  refine s_aload_n rfl G.b dX3_arcsAt_2 ?_
  refine s_getf G.b G.ow G.kn (G.hts _ q175) (fun _ h => h) fa_3 dX3_arcsAt_3 ?_
  refine s_callV G (mJ2_iterator EN) q354 q355 (sel_cons (r := (RJ2, TJ2, 3)) (by decide) rfl q356 (sel_nil)) q82 q357 nmk_18 (rm_of hF (Nat.le_of_ble_eq_true rfl) (Nat.le_of_ble_eq_true rfl)) dX3_arcsAt_6 ?_ (sx_out G (fun z hz => (hxt z hz).elim))
  refine s_astore G.b (by rw [G.nl]; decide) (fun _ _ => by rw [hC]) dX3_arcsAt_9 ?_
  exact h11
set_option maxHeartbeats 4000000 in
theorem mX3_arcsAt {l : Launch} {D : DE} {s0 : State} {E : Nat → Value} (EN : EV l D s0 E) : rMet l D s0 yX3_arcsAt (ws_ yX3_arcsAt cX3_arcsAt 6 (Option.some Jvm.ClassFile.FieldType.int)) 4 106 (wX3_arcsAt E) := by
  refine body_met (fun _ => false) EN.kn (fun w h => h) (by decide +kernel) rfl (fun av h Q hw => ?_) ?_
  · unfold wX3_arcsAt at hw
    split at hw
    · exact Nat.le_of_ble_eq_true rfl
    · exact hw.elim
  · intro p e s m below meth c av h Q hxt G hw
    unfold wX3_arcsAt at hw
    split at hw
    · exact tX3_arcsAt_0 EN G ⟨rfl, rfl⟩ rfl hxt (fun _ _ _ h => h) _ _ _ (hw (AW _ 11) (tX3_arcsAt_11 EN G ⟨rfl, rfl⟩ rfl hxt (fun _ _ _ h => h)))
    · exact hw.elim
/-! ChantRules$Rule.ofState(II)I (X3_ofState) -/
theorem nmk_230 : nm_ok ⟨"ChantRules$Rule", "useful", "(I)I"⟩ 1 := ⟨by decide +kernel, by decide +kernel, by decide +kernel⟩
theorem nmk_231 : nm_ok ⟨"ChantRules$Rule", "reached", "()[Z"⟩ 0 := ⟨by decide +kernel, by decide +kernel, by decide +kernel⟩
theorem nmk_232 : nm_ok yX3_arcsAt 2 := ⟨by decide +kernel, by decide +kernel, by decide +kernel⟩
def bX3_ofState_117 (E : Nat → Value) (Q : Rs → HS → Prop) : Ct :=
  o_ireturn .int Q
def bX3_ofState_115 (E : Nat → Value) (Q : Rs → HS → Prop) : Ct :=
  o_push (.int (-12)) <|
  (bX3_ofState_117 E Q)
def bX3_ofState_107 (E : Nat → Value) (Q : Rs → HS → Prop) : Ct :=
  o_aload 0 <|
  o_iload 1 <|
  o_callV [2] 2 (wX3_breathSet E) (x_out Q) <|
  (bX3_ofState_117 E Q)
def bX3_ofState_99 (E : Nat → Value) (Q : Rs → HS → Prop) : Ct :=
  o_aload 0 <|
  o_iload 1 <|
  o_callV [2] 2 (wX2_useful E) (x_out Q) <|
  (bX3_ofState_117 E Q)
def bX3_ofState_95 (E : Nat → Value) (Q : Rs → HS → Prop) : Ct :=
  o_push (.int 0) <|
  (bX3_ofState_117 E Q)
def bX3_ofState_82 (E : Nat → Value) (Q : Rs → HS → Prop) : Ct :=
  o_aload 0 <|
  o_callV [2] 1 (wX2_reached E) (x_out Q) <|
  o_iload 1 <|
  o_ald [101, 102] <|
  o_ifeq (bX3_ofState_95 E Q) <|
  o_push (.int 1) <|
  (bX3_ofState_117 E Q)
def bX3_ofState_76 (E : Nat → Value) (Q : Rs → HS → Prop) : Ct :=
  o_callV [2] 3 (wX3_arcsAt E) (x_out Q) <|
  (bX3_ofState_117 E Q)
def bX3_ofState_75 (E : Nat → Value) (Q : Rs → HS → Prop) : Ct :=
  o_push (.int 0) <|
  (bX3_ofState_76 E Q)
def bX3_ofState_64 (E : Nat → Value) (Q : Rs → HS → Prop) : Ct :=
  o_aload 0 <|
  o_iload 1 <|
  o_iload 2 <|
  o_push (.int 1) <|
  o_icmpne (bX3_ofState_75 E Q) <|
  o_push (.int 1) <|
  (bX3_ofState_76 E Q)
def bX3_ofState_55 (E : Nat → Value) (Q : Rs → HS → Prop) : Ct :=
  o_aload 0 <|
  o_getf [2] 1 <|
  o_iload 1 <|
  o_ald [100] <|
  (bX3_ofState_117 E Q)
def bX3_ofState_40 (E : Nat → Value) (Q : Rs → HS → Prop) : Ct :=
  o_aload 0 <|
  o_getf [2] 1 <|
  o_iload 1 <|
  o_ald [100] <|
  o_push (.int (-1)) <|
  o_icmpne (bX3_ofState_55 E Q) <|
  o_push (.int (-15)) <|
  (bX3_ofState_117 E Q)
def bX3_ofState_0 (E : Nat → Value) (Q : Rs → HS → Prop) : Ct :=
  o_iload 2 <|
  o_sw [(0, (bX3_ofState_40 E Q)), (1, (bX3_ofState_64 E Q)), (2, (bX3_ofState_64 E Q)), (3, (bX3_ofState_82 E Q)), (4, (bX3_ofState_99 E Q)), (5, (bX3_ofState_107 E Q))] (bX3_ofState_115 E Q)
def wX3_ofState (E : Nat → Value) : Wp := fun av h Q => match av with
  | [a0, a1, a2] => bX3_ofState_0 E Q [a0, a1, a2] [] h
  | _ => False
set_option maxHeartbeats 4000000 in
theorem tX3_ofState_117 {x : CX} {E : Nat → Value} {Q : Rs → HS → Prop} (EN : EX x E) (G : Gd x cX3_ofState "ChantRules$Rule" yX3_ofState 3 (Option.some Jvm.ClassFile.FieldType.int) Q) (hF : x.1.2.2.2.frames = 8 ∧ x.1.2.2.2.locals = 199) (hC : x.2.2.2.2.2 = (fun _ => false)) (hxt : (∀ z ∈ x.2.2.1.2.1.exceptionTable.toList, False)) : Snd x 117 (bX3_ofState_117 E Q) := by
  unfold bX3_ofState_117
  exact s_ireturn G dX3_ofState_117
set_option maxHeartbeats 4000000 in
theorem tX3_ofState_115 {x : CX} {E : Nat → Value} {Q : Rs → HS → Prop} (EN : EX x E) (G : Gd x cX3_ofState "ChantRules$Rule" yX3_ofState 3 (Option.some Jvm.ClassFile.FieldType.int) Q) (hF : x.1.2.2.2.frames = 8 ∧ x.1.2.2.2.locals = 199) (hC : x.2.2.2.2.2 = (fun _ => false)) (hxt : (∀ z ∈ x.2.2.1.2.1.exceptionTable.toList, False)) : Snd x 115 (bX3_ofState_115 E Q) := by
  unfold bX3_ofState_115
  refine s_bipush (by decide) G.b dX3_ofState_115 ?_
  exact (tX3_ofState_117 EN G hF hC hxt)
set_option maxHeartbeats 4000000 in
theorem tX3_ofState_107 {x : CX} {E : Nat → Value} {Q : Rs → HS → Prop} (EN : EX x E) (G : Gd x cX3_ofState "ChantRules$Rule" yX3_ofState 3 (Option.some Jvm.ClassFile.FieldType.int) Q) (hF : x.1.2.2.2.frames = 8 ∧ x.1.2.2.2.locals = 199) (hC : x.2.2.2.2.2 = (fun _ => false)) (hxt : (∀ z ∈ x.2.2.1.2.1.exceptionTable.toList, False)) : Snd x 107 (bX3_ofState_107 E Q) := by
  unfold bX3_ofState_107
  refine s_aload_n rfl G.b dX3_ofState_107 ?_
  refine s_iload_n rfl G.b dX3_ofState_108 ?_
  refine s_callV G (mX3_breathSet EN) q919 q921 (sel_cons (r := (RX3, TX3, 3)) (by decide) rfl qs9 (sel_nil)) q79 q922 nmk_131 (rm_of hF (Nat.le_of_ble_eq_true rfl) (Nat.le_of_ble_eq_true rfl)) dX3_ofState_109 ?_ (sx_out G (fun z hz => (hxt z hz).elim))
  exact s_goto (tgt := 117) G.b dX3_ofState_112 (by decide) (tX3_ofState_117 EN G hF hC hxt)
set_option maxHeartbeats 4000000 in
theorem tX3_ofState_99 {x : CX} {E : Nat → Value} {Q : Rs → HS → Prop} (EN : EX x E) (G : Gd x cX3_ofState "ChantRules$Rule" yX3_ofState 3 (Option.some Jvm.ClassFile.FieldType.int) Q) (hF : x.1.2.2.2.frames = 8 ∧ x.1.2.2.2.locals = 199) (hC : x.2.2.2.2.2 = (fun _ => false)) (hxt : (∀ z ∈ x.2.2.1.2.1.exceptionTable.toList, False)) : Snd x 99 (bX3_ofState_99 E Q) := by
  unfold bX3_ofState_99
  refine s_aload_n rfl G.b dX3_ofState_99 ?_
  refine s_iload_n rfl G.b dX3_ofState_100 ?_
  refine s_callVU (w := ⟨"ChantRules$Rule", "useful", "(I)I"⟩) (owner := "ChantRules$Machine") G (mX2_useful EN) q895 q896 (va_Decl.of (G.hts _ q899) (G.hts _ q900)) (by decide +kernel) q899 (sel_cons (r := (RX3, TX3, 3)) (by decide) rfl q898 (sel_nil)) q78 q900 nmk_230 (rm_of hF (Nat.le_of_ble_eq_true rfl) (Nat.le_of_ble_eq_true rfl)) dX3_ofState_101 ?_ (sx_out G (fun z hz => (hxt z hz).elim))
  exact s_goto (tgt := 117) G.b dX3_ofState_104 (by decide) (tX3_ofState_117 EN G hF hC hxt)
set_option maxHeartbeats 4000000 in
theorem tX3_ofState_95 {x : CX} {E : Nat → Value} {Q : Rs → HS → Prop} (EN : EX x E) (G : Gd x cX3_ofState "ChantRules$Rule" yX3_ofState 3 (Option.some Jvm.ClassFile.FieldType.int) Q) (hF : x.1.2.2.2.frames = 8 ∧ x.1.2.2.2.locals = 199) (hC : x.2.2.2.2.2 = (fun _ => false)) (hxt : (∀ z ∈ x.2.2.1.2.1.exceptionTable.toList, False)) : Snd x 95 (bX3_ofState_95 E Q) := by
  unfold bX3_ofState_95
  refine s_iconst (by decide) G.b dX3_ofState_95 ?_
  exact s_goto (tgt := 117) G.b dX3_ofState_96 (by decide) (tX3_ofState_117 EN G hF hC hxt)
set_option maxHeartbeats 4000000 in
theorem tX3_ofState_82 {x : CX} {E : Nat → Value} {Q : Rs → HS → Prop} (EN : EX x E) (G : Gd x cX3_ofState "ChantRules$Rule" yX3_ofState 3 (Option.some Jvm.ClassFile.FieldType.int) Q) (hF : x.1.2.2.2.frames = 8 ∧ x.1.2.2.2.locals = 199) (hC : x.2.2.2.2.2 = (fun _ => false)) (hxt : (∀ z ∈ x.2.2.1.2.1.exceptionTable.toList, False)) : Snd x 82 (bX3_ofState_82 E Q) := by
  unfold bX3_ofState_82
  refine s_aload_n rfl G.b dX3_ofState_82 ?_
  refine s_callVU (w := ⟨"ChantRules$Rule", "reached", "()[Z"⟩) (owner := "ChantRules$Machine") G (mX2_reached EN) q854 q855 (va_Decl.of (G.hts _ q858) (G.hts _ q859)) (by decide +kernel) q858 (sel_cons (r := (RX3, TX3, 3)) (by decide) rfl q857 (sel_nil)) q78 q859 nmk_231 (rm_of hF (Nat.le_of_ble_eq_true rfl) (Nat.le_of_ble_eq_true rfl)) dX3_ofState_83 ?_ (sx_out G (fun z hz => (hxt z hz).elim))
  refine s_iload_n rfl G.b dX3_ofState_86 ?_
  refine s_bald G.b G.kn dX3_ofState_87 ?_
  refine s_ifeq (tgt := 95) G.b dX3_ofState_88 (by decide) (tX3_ofState_95 EN G hF hC hxt) ?_
  refine s_iconst (by decide) G.b dX3_ofState_91 ?_
  exact s_goto (tgt := 117) G.b dX3_ofState_92 (by decide) (tX3_ofState_117 EN G hF hC hxt)
set_option maxHeartbeats 4000000 in
theorem tX3_ofState_76 {x : CX} {E : Nat → Value} {Q : Rs → HS → Prop} (EN : EX x E) (G : Gd x cX3_ofState "ChantRules$Rule" yX3_ofState 3 (Option.some Jvm.ClassFile.FieldType.int) Q) (hF : x.1.2.2.2.frames = 8 ∧ x.1.2.2.2.locals = 199) (hC : x.2.2.2.2.2 = (fun _ => false)) (hxt : (∀ z ∈ x.2.2.1.2.1.exceptionTable.toList, False)) : Snd x 76 (bX3_ofState_76 E Q) := by
  unfold bX3_ofState_76
  refine s_callV G (mX3_arcsAt EN) q850 q851 (sel_cons (r := (RX3, TX3, 3)) (by decide) rfl q852 (sel_nil)) q79 q853 nmk_232 (rm_of hF (Nat.le_of_ble_eq_true rfl) (Nat.le_of_ble_eq_true rfl)) dX3_ofState_76 ?_ (sx_out G (fun z hz => (hxt z hz).elim))
  exact s_goto (tgt := 117) G.b dX3_ofState_79 (by decide) (tX3_ofState_117 EN G hF hC hxt)
set_option maxHeartbeats 4000000 in
theorem tX3_ofState_75 {x : CX} {E : Nat → Value} {Q : Rs → HS → Prop} (EN : EX x E) (G : Gd x cX3_ofState "ChantRules$Rule" yX3_ofState 3 (Option.some Jvm.ClassFile.FieldType.int) Q) (hF : x.1.2.2.2.frames = 8 ∧ x.1.2.2.2.locals = 199) (hC : x.2.2.2.2.2 = (fun _ => false)) (hxt : (∀ z ∈ x.2.2.1.2.1.exceptionTable.toList, False)) : Snd x 75 (bX3_ofState_75 E Q) := by
  unfold bX3_ofState_75
  refine s_iconst (by decide) G.b dX3_ofState_75 ?_
  exact (tX3_ofState_76 EN G hF hC hxt)
set_option maxHeartbeats 4000000 in
theorem tX3_ofState_64 {x : CX} {E : Nat → Value} {Q : Rs → HS → Prop} (EN : EX x E) (G : Gd x cX3_ofState "ChantRules$Rule" yX3_ofState 3 (Option.some Jvm.ClassFile.FieldType.int) Q) (hF : x.1.2.2.2.frames = 8 ∧ x.1.2.2.2.locals = 199) (hC : x.2.2.2.2.2 = (fun _ => false)) (hxt : (∀ z ∈ x.2.2.1.2.1.exceptionTable.toList, False)) : Snd x 64 (bX3_ofState_64 E Q) := by
  unfold bX3_ofState_64
  refine s_aload_n rfl G.b dX3_ofState_64 ?_
  refine s_iload_n rfl G.b dX3_ofState_65 ?_
  refine s_iload_n rfl G.b dX3_ofState_66 ?_
  refine s_iconst (by decide) G.b dX3_ofState_67 ?_
  refine s_icmpne (tgt := 75) G.b dX3_ofState_68 (by decide) (tX3_ofState_75 EN G hF hC hxt) ?_
  refine s_iconst (by decide) G.b dX3_ofState_71 ?_
  exact s_goto (tgt := 76) G.b dX3_ofState_72 (by decide) (tX3_ofState_76 EN G hF hC hxt)
set_option maxHeartbeats 4000000 in
theorem tX3_ofState_55 {x : CX} {E : Nat → Value} {Q : Rs → HS → Prop} (EN : EX x E) (G : Gd x cX3_ofState "ChantRules$Rule" yX3_ofState 3 (Option.some Jvm.ClassFile.FieldType.int) Q) (hF : x.1.2.2.2.frames = 8 ∧ x.1.2.2.2.locals = 199) (hC : x.2.2.2.2.2 = (fun _ => false)) (hxt : (∀ z ∈ x.2.2.1.2.1.exceptionTable.toList, False)) : Snd x 55 (bX3_ofState_55 E Q) := by
  unfold bX3_ofState_55
  refine s_aload_n rfl G.b dX3_ofState_55 ?_
  refine s_getf G.b G.ow G.kn (G.hts _ q179) (fun _ h => h) fa_2 dX3_ofState_56 ?_
  refine s_iload_n rfl G.b dX3_ofState_59 ?_
  refine s_iald G.b G.kn dX3_ofState_60 ?_
  exact s_goto (tgt := 117) G.b dX3_ofState_61 (by decide) (tX3_ofState_117 EN G hF hC hxt)
set_option maxHeartbeats 4000000 in
theorem tX3_ofState_40 {x : CX} {E : Nat → Value} {Q : Rs → HS → Prop} (EN : EX x E) (G : Gd x cX3_ofState "ChantRules$Rule" yX3_ofState 3 (Option.some Jvm.ClassFile.FieldType.int) Q) (hF : x.1.2.2.2.frames = 8 ∧ x.1.2.2.2.locals = 199) (hC : x.2.2.2.2.2 = (fun _ => false)) (hxt : (∀ z ∈ x.2.2.1.2.1.exceptionTable.toList, False)) : Snd x 40 (bX3_ofState_40 E Q) := by
  unfold bX3_ofState_40
  refine s_aload_n rfl G.b dX3_ofState_40 ?_
  refine s_getf G.b G.ow G.kn (G.hts _ q179) (fun _ h => h) fa_2 dX3_ofState_41 ?_
  refine s_iload_n rfl G.b dX3_ofState_44 ?_
  refine s_iald G.b G.kn dX3_ofState_45 ?_
  refine s_iconst (by decide) G.b dX3_ofState_46 ?_
  refine s_icmpne (tgt := 55) G.b dX3_ofState_47 (by decide) (tX3_ofState_55 EN G hF hC hxt) ?_
  refine s_bipush (by decide) G.b dX3_ofState_50 ?_
  exact s_goto (tgt := 117) G.b dX3_ofState_52 (by decide) (tX3_ofState_117 EN G hF hC hxt)
set_option maxHeartbeats 4000000 in
theorem tX3_ofState_0 {x : CX} {E : Nat → Value} {Q : Rs → HS → Prop} (EN : EX x E) (G : Gd x cX3_ofState "ChantRules$Rule" yX3_ofState 3 (Option.some Jvm.ClassFile.FieldType.int) Q) (hF : x.1.2.2.2.frames = 8 ∧ x.1.2.2.2.locals = 199) (hC : x.2.2.2.2.2 = (fun _ => false)) (hxt : (∀ z ∈ x.2.2.1.2.1.exceptionTable.toList, False)) : Snd x 0 (bX3_ofState_0 E Q) := by
  unfold bX3_ofState_0
  refine s_iload_n rfl G.b dX3_ofState_0 ?_
  exact s_tsw (tD := 115) G.b dX3_ofState_1 (by decide) (tX3_ofState_115 EN G hF hC hxt) rfl (tsw_0 (tsw_cons (39) 40 (by decide) rfl (by decide) (tX3_ofState_40 EN G hF hC hxt) (tsw_cons (63) 64 (by decide) rfl (by decide) (tX3_ofState_64 EN G hF hC hxt) (tsw_cons (63) 64 (by decide) rfl (by decide) (tX3_ofState_64 EN G hF hC hxt) (tsw_cons (81) 82 (by decide) rfl (by decide) (tX3_ofState_82 EN G hF hC hxt) (tsw_cons (98) 99 (by decide) rfl (by decide) (tX3_ofState_99 EN G hF hC hxt) (tsw_cons (106) 107 (by decide) rfl (by decide) (tX3_ofState_107 EN G hF hC hxt) (tsw_nil))))))))
set_option maxHeartbeats 4000000 in
theorem mX3_ofState {l : Launch} {D : DE} {s0 : State} {E : Nat → Value} (EN : EV l D s0 E) : rMet l D s0 yX3_ofState (ws_ yX3_ofState cX3_ofState 3 (Option.some Jvm.ClassFile.FieldType.int)) 8 199 (wX3_ofState E) := by
  refine body_met (fun _ => false) EN.kn (fun w h => h) (by decide +kernel) rfl (fun av h Q hw => ?_) ?_
  · unfold wX3_ofState at hw
    split at hw
    · exact Nat.le_of_ble_eq_true rfl
    · exact hw.elim
  · intro p e s m below meth c av h Q hxt G hw
    unfold wX3_ofState at hw
    split at hw
    · exact tX3_ofState_0 EN G ⟨rfl, rfl⟩ rfl hxt _ _ _ hw
    · exact hw.elim
/-! ChantRules.stateOf(III)I (X0_stateOf) -/
theorem nmk_233 : nm_ok yX3_ofState 2 := ⟨by decide +kernel, by decide +kernel, by decide +kernel⟩
def bX0_stateOf_31 (E : Nat → Value) (Q : Rs → HS → Prop) : Ct :=
  o_ireturn .int Q
def bX0_stateOf_29 (E : Nat → Value) (Q : Rs → HS → Prop) : Ct :=
  o_push (.int (-11)) <|
  (bX0_stateOf_31 E Q)
def bX0_stateOf_0 (E : Nat → Value) (Q : Rs → HS → Prop) : Ct :=
  o_aload 0 <|
  o_getf [0] 1 <|
  o_iload 1 <|
  o_iload 2 <|
  o_callV [1] 3 (wX1_isState E) (x_out Q) <|
  o_ifeq (bX0_stateOf_29 E Q) <|
  o_aload 0 <|
  o_getf [0] 1 <|
  o_getf [1] 0 <|
  o_iload 1 <|
  o_ald [103, 104, 105, 106, 107] <|
  o_iload 2 <|
  o_iload 3 <|
  o_callV [2] 3 (wX3_ofState E) (x_out Q) <|
  (bX0_stateOf_31 E Q)
def wX0_stateOf (E : Nat → Value) : Wp := fun av h Q => match av with
  | [a0, a1, a2, a3] => bX0_stateOf_0 E Q [a0, a1, a2, a3] [] h
  | _ => False
set_option maxHeartbeats 4000000 in
theorem tX0_stateOf_31 {x : CX} {E : Nat → Value} {Q : Rs → HS → Prop} (EN : EX x E) (G : Gd x cX0_stateOf "ChantRules" yX0_stateOf 4 (Option.some Jvm.ClassFile.FieldType.int) Q) (hF : x.1.2.2.2.frames = 9 ∧ x.1.2.2.2.locals = 221) (hC : x.2.2.2.2.2 = (fun _ => false)) (hxt : (∀ z ∈ x.2.2.1.2.1.exceptionTable.toList, False)) : Snd x 31 (bX0_stateOf_31 E Q) := by
  unfold bX0_stateOf_31
  exact s_ireturn G dX0_stateOf_31
set_option maxHeartbeats 4000000 in
theorem tX0_stateOf_29 {x : CX} {E : Nat → Value} {Q : Rs → HS → Prop} (EN : EX x E) (G : Gd x cX0_stateOf "ChantRules" yX0_stateOf 4 (Option.some Jvm.ClassFile.FieldType.int) Q) (hF : x.1.2.2.2.frames = 9 ∧ x.1.2.2.2.locals = 221) (hC : x.2.2.2.2.2 = (fun _ => false)) (hxt : (∀ z ∈ x.2.2.1.2.1.exceptionTable.toList, False)) : Snd x 29 (bX0_stateOf_29 E Q) := by
  unfold bX0_stateOf_29
  refine s_bipush (by decide) G.b dX0_stateOf_29 ?_
  exact (tX0_stateOf_31 EN G hF hC hxt)
set_option maxHeartbeats 4000000 in
theorem tX0_stateOf_0 {x : CX} {E : Nat → Value} {Q : Rs → HS → Prop} (EN : EX x E) (G : Gd x cX0_stateOf "ChantRules" yX0_stateOf 4 (Option.some Jvm.ClassFile.FieldType.int) Q) (hF : x.1.2.2.2.frames = 9 ∧ x.1.2.2.2.locals = 221) (hC : x.2.2.2.2.2 = (fun _ => false)) (hxt : (∀ z ∈ x.2.2.1.2.1.exceptionTable.toList, False)) : Snd x 0 (bX0_stateOf_0 E Q) := by
  unfold bX0_stateOf_0
  refine s_aload_n rfl G.b dX0_stateOf_0 ?_
  refine s_getf G.b G.ow G.kn (G.hts _ q300) (fun _ h => h) fa_11 dX0_stateOf_1 ?_
  refine s_iload_n rfl G.b dX0_stateOf_4 ?_
  refine s_iload_n rfl G.b dX0_stateOf_5 ?_
  refine s_callV G (mX1_isState EN) q602 q603 (sel_cons (r := (RX1, TX1, 4)) (by decide) rfl q604 (sel_nil)) q77 q605 nmk_88 (rm_of hF (Nat.le_of_ble_eq_true rfl) (Nat.le_of_ble_eq_true rfl)) dX0_stateOf_6 ?_ (sx_out G (fun z hz => (hxt z hz).elim))
  refine s_ifeq (tgt := 29) G.b dX0_stateOf_9 (by decide) (tX0_stateOf_29 EN G hF hC hxt) ?_
  refine s_aload_n rfl G.b dX0_stateOf_12 ?_
  refine s_getf G.b G.ow G.kn (G.hts _ q300) (fun _ h => h) fa_11 dX0_stateOf_13 ?_
  refine s_getfN G.b G.ow G.kn (va_Nw.use rfl (va_Nw.warmF G.warm (EN.nw q194 rfl))) (fun _ h => h) fa_5 dX0_stateOf_16 ?_
  refine s_iload_n rfl G.b dX0_stateOf_19 ?_
  refine s_aald G.b G.kn dX0_stateOf_20 ?_
  refine s_iload_n rfl G.b dX0_stateOf_21 ?_
  refine s_iload_n rfl G.b dX0_stateOf_22 ?_
  refine s_callV G (mX3_ofState EN) q846 q847 (sel_cons (r := (RX3, TX3, 3)) (by decide) rfl q848 (sel_nil)) q79 q849 nmk_233 (rm_of hF (Nat.le_of_ble_eq_true rfl) (Nat.le_of_ble_eq_true rfl)) dX0_stateOf_23 ?_ (sx_out G (fun z hz => (hxt z hz).elim))
  exact s_goto (tgt := 31) G.b dX0_stateOf_26 (by decide) (tX0_stateOf_31 EN G hF hC hxt)
set_option maxHeartbeats 4000000 in
theorem mX0_stateOf {l : Launch} {D : DE} {s0 : State} {E : Nat → Value} (EN : EV l D s0 E) : rMet l D s0 yX0_stateOf (ws_ yX0_stateOf cX0_stateOf 4 (Option.some Jvm.ClassFile.FieldType.int)) 9 221 (wX0_stateOf E) := by
  refine body_met (fun _ => false) EN.kn (fun w h => h) (by decide +kernel) rfl (fun av h Q hw => ?_) ?_
  · unfold wX0_stateOf at hw
    split at hw
    · exact Nat.le_of_ble_eq_true rfl
    · exact hw.elim
  · intro p e s m below meth c av h Q hxt G hw
    unfold wX0_stateOf at hw
    split at hw
    · exact tX0_stateOf_0 EN G ⟨rfl, rfl⟩ rfl hxt _ _ _ hw
    · exact hw.elim
/-! java/lang/Integer.getChars(II[B)I (J22_getChars) -/
def bJ22_getChars_118 (E : Nat → Value) (Q : Rs → HS → Prop) (X22 : Ct) : Ct :=
  o_iload 5 <|
  o_ireturn .int Q
def bJ22_getChars_104 (E : Nat → Value) (Q : Rs → HS → Prop) (X22 : Ct) : Ct :=
  o_iload 6 <|
  o_ifeq (bJ22_getChars_118 E Q X22) <|
  o_aload 2 <|
  o_iinc 5 (-1) <|
  o_iload 5 <|
  o_push (.int 45) <|
  o_ast [(101, .boolean), (102, .byte)] <|
  (bJ22_getChars_118 E Q X22)
def bJ22_getChars_72 (E : Nat → Value) (Q : Rs → HS → Prop) (X22 : Ct) : Ct :=
  o_aload 2 <|
  o_iinc 5 (-1) <|
  o_iload 5 <|
  o_push (E 6) <|
  o_iload 0 <|
  o_ineg <|
  o_ald [101, 102] <|
  o_ast [(101, .boolean), (102, .byte)] <|
  o_iload 0 <|
  o_push (.int (-9)) <|
  o_icmpge (bJ22_getChars_104 E Q X22) <|
  o_aload 2 <|
  o_iinc 5 (-1) <|
  o_iload 5 <|
  o_push (E 7) <|
  o_iload 0 <|
  o_ineg <|
  o_ald [101, 102] <|
  o_ast [(101, .boolean), (102, .byte)] <|
  (bJ22_getChars_104 E Q X22)
def bJ22_getChars_22 (E : Nat → Value) (Q : Rs → HS → Prop) (X22 : Ct) : Ct :=
  o_iload 0 <|
  o_push (.int (-100)) <|
  o_icmpgt (bJ22_getChars_72 E Q X22) <|
  o_iload 0 <|
  o_push (.int 100) <|
  o_idiv <|
  o_istore 3 <|
  o_iload 3 <|
  o_push (.int 100) <|
  o_imul <|
  o_iload 0 <|
  o_isub <|
  o_istore 4 <|
  o_iload 3 <|
  o_istore 0 <|
  o_aload 2 <|
  o_iinc 5 (-1) <|
  o_iload 5 <|
  o_push (E 6) <|
  o_iload 4 <|
  o_ald [101, 102] <|
  o_ast [(101, .boolean), (102, .byte)] <|
  o_aload 2 <|
  o_iinc 5 (-1) <|
  o_iload 5 <|
  o_push (E 7) <|
  o_iload 4 <|
  o_ald [101, 102] <|
  o_ast [(101, .boolean), (102, .byte)] <|
  X22
def bJ22_getChars_12 (E : Nat → Value) (Q : Rs → HS → Prop) (X22 : Ct) : Ct :=
  o_istore 6 <|
  o_iload 6 <|
  o_ifne X22 <|
  o_iload 0 <|
  o_ineg <|
  o_istore 0 <|
  X22
def bJ22_getChars_11 (E : Nat → Value) (Q : Rs → HS → Prop) (X22 : Ct) : Ct :=
  o_push (.int 0) <|
  (bJ22_getChars_12 E Q X22)
def bJ22_getChars_0 (E : Nat → Value) (Q : Rs → HS → Prop) (X22 : Ct) : Ct :=
  o_iload 1 <|
  o_istore 5 <|
  o_iload 0 <|
  o_ifge (bJ22_getChars_11 E Q X22) <|
  o_push (.int 1) <|
  (bJ22_getChars_12 E Q X22)
def wJ22_getChars (E : Nat → Value) : Wp := fun av h Q => match av with
  | [a0, a1, a2] => ∀ X22 : Ct, (∀ ls st h, bJ22_getChars_22 E Q X22 ls st h → X22 ls st h) → bJ22_getChars_0 E Q X22 [a0, a1, a2, jk, jk, jk, jk] [] h
  | _ => False
set_option maxHeartbeats 4000000 in
theorem tJ22_getChars_118 {x : CX} {E : Nat → Value} {Q : Rs → HS → Prop} {X22 : Ct} (EN : EX x E) (G : Gd x cJ22_getChars "java/lang/Integer" yJ22_getChars 7 (Option.some Jvm.ClassFile.FieldType.int) Q) (hF : x.1.2.2.2.frames = 2 ∧ x.1.2.2.2.locals = 64) (hC : x.2.2.2.2.2 = (fun _ => false)) (hxt : (∀ z ∈ x.2.2.1.2.1.exceptionTable.toList, False)) (h22 : Snd x 22 X22) : Snd x 118 (bJ22_getChars_118 E Q X22) := by
  unfold bJ22_getChars_118
  refine s_iload G.b dJ22_getChars_118 ?_
  exact s_ireturn G dJ22_getChars_120
set_option maxHeartbeats 4000000 in
theorem tJ22_getChars_104 {x : CX} {E : Nat → Value} {Q : Rs → HS → Prop} {X22 : Ct} (EN : EX x E) (G : Gd x cJ22_getChars "java/lang/Integer" yJ22_getChars 7 (Option.some Jvm.ClassFile.FieldType.int) Q) (hF : x.1.2.2.2.frames = 2 ∧ x.1.2.2.2.locals = 64) (hC : x.2.2.2.2.2 = (fun _ => false)) (hxt : (∀ z ∈ x.2.2.1.2.1.exceptionTable.toList, False)) (h22 : Snd x 22 X22) : Snd x 104 (bJ22_getChars_104 E Q X22) := by
  unfold bJ22_getChars_104
  refine s_iload G.b dJ22_getChars_104 ?_
  refine s_ifeq (tgt := 118) G.b dJ22_getChars_106 (by decide) (tJ22_getChars_118 EN G hF hC hxt h22) ?_
  refine s_aload_n rfl G.b dJ22_getChars_109 ?_
  refine s_iinc (by decide) G.b (by rw [G.nl]; decide) (fun _ _ => by rw [hC]) dJ22_getChars_110 ?_
  refine s_iload G.b dJ22_getChars_113 ?_
  refine s_bipush (by decide) G.b dJ22_getChars_115 ?_
  refine s_bast G.b G.kn dJ22_getChars_117 ?_
  exact (tJ22_getChars_118 EN G hF hC hxt h22)
set_option maxHeartbeats 4000000 in
theorem tJ22_getChars_72 {x : CX} {E : Nat → Value} {Q : Rs → HS → Prop} {X22 : Ct} (EN : EX x E) (G : Gd x cJ22_getChars "java/lang/Integer" yJ22_getChars 7 (Option.some Jvm.ClassFile.FieldType.int) Q) (hF : x.1.2.2.2.frames = 2 ∧ x.1.2.2.2.locals = 64) (hC : x.2.2.2.2.2 = (fun _ => false)) (hxt : (∀ z ∈ x.2.2.1.2.1.exceptionTable.toList, False)) (h22 : Snd x 22 X22) : Snd x 72 (bJ22_getChars_72 E Q X22) := by
  unfold bJ22_getChars_72
  refine s_aload_n rfl G.b dJ22_getChars_72 ?_
  refine s_iinc (by decide) G.b (by rw [G.nl]; decide) (fun _ _ => by rw [hC]) dJ22_getChars_73 ?_
  refine s_iload G.b dJ22_getChars_76 ?_
  refine s_getst EN G q1736 (i := 6) rfl dJ22_getChars_78 ?_
  refine s_iload_n rfl G.b dJ22_getChars_81 ?_
  refine s_ineg G.b dJ22_getChars_82 ?_
  refine s_bald G.b G.kn dJ22_getChars_83 ?_
  refine s_bast G.b G.kn dJ22_getChars_84 ?_
  refine s_iload_n rfl G.b dJ22_getChars_85 ?_
  refine s_bipush (by decide) G.b dJ22_getChars_86 ?_
  refine s_icmpge (tgt := 104) G.b dJ22_getChars_88 (by decide) (tJ22_getChars_104 EN G hF hC hxt h22) ?_
  refine s_aload_n rfl G.b dJ22_getChars_91 ?_
  refine s_iinc (by decide) G.b (by rw [G.nl]; decide) (fun _ _ => by rw [hC]) dJ22_getChars_92 ?_
  refine s_iload G.b dJ22_getChars_95 ?_
  refine s_getst EN G q1738 (i := 7) rfl dJ22_getChars_97 ?_
  refine s_iload_n rfl G.b dJ22_getChars_100 ?_
  refine s_ineg G.b dJ22_getChars_101 ?_
  refine s_bald G.b G.kn dJ22_getChars_102 ?_
  refine s_bast G.b G.kn dJ22_getChars_103 ?_
  exact (tJ22_getChars_104 EN G hF hC hxt h22)
set_option maxHeartbeats 4000000 in
theorem tJ22_getChars_22 {x : CX} {E : Nat → Value} {Q : Rs → HS → Prop} {X22 : Ct} (EN : EX x E) (G : Gd x cJ22_getChars "java/lang/Integer" yJ22_getChars 7 (Option.some Jvm.ClassFile.FieldType.int) Q) (hF : x.1.2.2.2.frames = 2 ∧ x.1.2.2.2.locals = 64) (hC : x.2.2.2.2.2 = (fun _ => false)) (hxt : (∀ z ∈ x.2.2.1.2.1.exceptionTable.toList, False)) (h22 : Snd x 22 X22) : Snd x 22 (bJ22_getChars_22 E Q X22) := by
  unfold bJ22_getChars_22
  refine s_iload_n rfl G.b dJ22_getChars_22 ?_
  refine s_bipush (by decide) G.b dJ22_getChars_23 ?_
  refine s_icmpgt (tgt := 72) G.b dJ22_getChars_25 (by decide) (tJ22_getChars_72 EN G hF hC hxt h22) ?_
  refine s_iload_n rfl G.b dJ22_getChars_28 ?_
  refine s_bipush (by decide) G.b dJ22_getChars_29 ?_
  refine s_idiv G.b dJ22_getChars_31 ?_
  refine s_istore_n rfl G.b (by rw [G.nl]; decide) (fun _ _ => by rw [hC]) dJ22_getChars_32 ?_
  refine s_iload_n rfl G.b dJ22_getChars_33 ?_
  refine s_bipush (by decide) G.b dJ22_getChars_34 ?_
  refine s_imul G.b dJ22_getChars_36 ?_
  refine s_iload_n rfl G.b dJ22_getChars_37 ?_
  refine s_isub G.b dJ22_getChars_38 ?_
  refine s_istore G.b (by rw [G.nl]; decide) (fun _ _ => by rw [hC]) dJ22_getChars_39 ?_
  refine s_iload_n rfl G.b dJ22_getChars_41 ?_
  refine s_istore_n rfl G.b (by rw [G.nl]; decide) (fun _ _ => by rw [hC]) dJ22_getChars_42 ?_
  refine s_aload_n rfl G.b dJ22_getChars_43 ?_
  refine s_iinc (by decide) G.b (by rw [G.nl]; decide) (fun _ _ => by rw [hC]) dJ22_getChars_44 ?_
  refine s_iload G.b dJ22_getChars_47 ?_
  refine s_getst EN G q1736 (i := 6) rfl dJ22_getChars_49 ?_
  refine s_iload G.b dJ22_getChars_52 ?_
  refine s_bald G.b G.kn dJ22_getChars_54 ?_
  refine s_bast G.b G.kn dJ22_getChars_55 ?_
  refine s_aload_n rfl G.b dJ22_getChars_56 ?_
  refine s_iinc (by decide) G.b (by rw [G.nl]; decide) (fun _ _ => by rw [hC]) dJ22_getChars_57 ?_
  refine s_iload G.b dJ22_getChars_60 ?_
  refine s_getst EN G q1738 (i := 7) rfl dJ22_getChars_62 ?_
  refine s_iload G.b dJ22_getChars_65 ?_
  refine s_bald G.b G.kn dJ22_getChars_67 ?_
  refine s_bast G.b G.kn dJ22_getChars_68 ?_
  exact s_goto (tgt := 22) G.b dJ22_getChars_69 (by decide) h22
set_option maxHeartbeats 4000000 in
theorem tJ22_getChars_12 {x : CX} {E : Nat → Value} {Q : Rs → HS → Prop} {X22 : Ct} (EN : EX x E) (G : Gd x cJ22_getChars "java/lang/Integer" yJ22_getChars 7 (Option.some Jvm.ClassFile.FieldType.int) Q) (hF : x.1.2.2.2.frames = 2 ∧ x.1.2.2.2.locals = 64) (hC : x.2.2.2.2.2 = (fun _ => false)) (hxt : (∀ z ∈ x.2.2.1.2.1.exceptionTable.toList, False)) (h22 : Snd x 22 X22) : Snd x 12 (bJ22_getChars_12 E Q X22) := by
  unfold bJ22_getChars_12
  refine s_istore G.b (by rw [G.nl]; decide) (fun _ _ => by rw [hC]) dJ22_getChars_12 ?_
  refine s_iload G.b dJ22_getChars_14 ?_
  refine s_ifne (tgt := 22) G.b dJ22_getChars_16 (by decide) h22 ?_
  refine s_iload_n rfl G.b dJ22_getChars_19 ?_
  refine s_ineg G.b dJ22_getChars_20 ?_
  refine s_istore_n rfl G.b (by rw [G.nl]; decide) (fun _ _ => by rw [hC]) dJ22_getChars_21 ?_
  exact h22
set_option maxHeartbeats 4000000 in
theorem tJ22_getChars_11 {x : CX} {E : Nat → Value} {Q : Rs → HS → Prop} {X22 : Ct} (EN : EX x E) (G : Gd x cJ22_getChars "java/lang/Integer" yJ22_getChars 7 (Option.some Jvm.ClassFile.FieldType.int) Q) (hF : x.1.2.2.2.frames = 2 ∧ x.1.2.2.2.locals = 64) (hC : x.2.2.2.2.2 = (fun _ => false)) (hxt : (∀ z ∈ x.2.2.1.2.1.exceptionTable.toList, False)) (h22 : Snd x 22 X22) : Snd x 11 (bJ22_getChars_11 E Q X22) := by
  unfold bJ22_getChars_11
  refine s_iconst (by decide) G.b dJ22_getChars_11 ?_
  exact (tJ22_getChars_12 EN G hF hC hxt h22)
set_option maxHeartbeats 4000000 in
theorem tJ22_getChars_0 {x : CX} {E : Nat → Value} {Q : Rs → HS → Prop} {X22 : Ct} (EN : EX x E) (G : Gd x cJ22_getChars "java/lang/Integer" yJ22_getChars 7 (Option.some Jvm.ClassFile.FieldType.int) Q) (hF : x.1.2.2.2.frames = 2 ∧ x.1.2.2.2.locals = 64) (hC : x.2.2.2.2.2 = (fun _ => false)) (hxt : (∀ z ∈ x.2.2.1.2.1.exceptionTable.toList, False)) (h22 : Snd x 22 X22) : Snd x 0 (bJ22_getChars_0 E Q X22) := by
  unfold bJ22_getChars_0
  refine s_iload_n rfl G.b dJ22_getChars_0 ?_
  refine s_istore G.b (by rw [G.nl]; decide) (fun _ _ => by rw [hC]) dJ22_getChars_1 ?_
  refine s_iload_n rfl G.b dJ22_getChars_3 ?_
  refine s_ifge (tgt := 11) G.b dJ22_getChars_4 (by decide) (tJ22_getChars_11 EN G hF hC hxt h22) ?_
  refine s_iconst (by decide) G.b dJ22_getChars_7 ?_
  exact s_goto (tgt := 12) G.b dJ22_getChars_8 (by decide) (tJ22_getChars_12 EN G hF hC hxt h22)
set_option maxHeartbeats 4000000 in
theorem mJ22_getChars {l : Launch} {D : DE} {s0 : State} {E : Nat → Value} (EN : EV l D s0 E) : rMet l D s0 yJ22_getChars (ws_ yJ22_getChars cJ22_getChars 7 (Option.some Jvm.ClassFile.FieldType.int)) 2 64 (wJ22_getChars E) := by
  refine body_met (fun _ => false) EN.kn (fun w h => h) (by decide +kernel) rfl (fun av h Q hw => ?_) ?_
  · unfold wJ22_getChars at hw
    split at hw
    · exact Nat.le_of_ble_eq_true rfl
    · exact hw.elim
  · intro p e s m below meth c av h Q hxt G hw
    unfold wJ22_getChars at hw
    split at hw
    · exact tJ22_getChars_0 EN G ⟨rfl, rfl⟩ rfl hxt (fun _ _ _ h => h) _ _ _ (hw (AW _ 22) (tJ22_getChars_22 EN G ⟨rfl, rfl⟩ rfl hxt (fun _ _ _ h => h)))
    · exact hw.elim
/-! java/lang/Integer.stringSize(I)I (J22_stringSize) -/
def bJ22_stringSize_42 (E : Nat → Value) (Q : Rs → HS → Prop) (X16 : Ct) : Ct :=
  o_push (.int 10) <|
  o_iload 1 <|
  o_iadd <|
  o_ireturn .int Q
def bJ22_stringSize_31 (E : Nat → Value) (Q : Rs → HS → Prop) (X16 : Ct) : Ct :=
  o_push (.int 10) <|
  o_iload 2 <|
  o_imul <|
  o_istore 2 <|
  o_iinc 3 1 <|
  X16
def bJ22_stringSize_16 (E : Nat → Value) (Q : Rs → HS → Prop) (X16 : Ct) : Ct :=
  o_iload 3 <|
  o_push (.int 10) <|
  o_icmpge (bJ22_stringSize_42 E Q X16) <|
  o_iload 0 <|
  o_iload 2 <|
  o_icmple (bJ22_stringSize_31 E Q X16) <|
  o_iload 3 <|
  o_iload 1 <|
  o_iadd <|
  o_ireturn .int Q
def bJ22_stringSize_11 (E : Nat → Value) (Q : Rs → HS → Prop) (X16 : Ct) : Ct :=
  o_push (.int (-10)) <|
  o_istore 2 <|
  o_push (.int 1) <|
  o_istore 3 <|
  X16
def bJ22_stringSize_0 (E : Nat → Value) (Q : Rs → HS → Prop) (X16 : Ct) : Ct :=
  o_push (.int 1) <|
  o_istore 1 <|
  o_iload 0 <|
  o_iflt (bJ22_stringSize_11 E Q X16) <|
  o_push (.int 0) <|
  o_istore 1 <|
  o_iload 0 <|
  o_ineg <|
  o_istore 0 <|
  (bJ22_stringSize_11 E Q X16)
def wJ22_stringSize (E : Nat → Value) : Wp := fun av h Q => match av with
  | [a0] => ∀ X16 : Ct, (∀ ls st h, bJ22_stringSize_16 E Q X16 ls st h → X16 ls st h) → bJ22_stringSize_0 E Q X16 [a0, jk, jk, jk] [] h
  | _ => False
set_option maxHeartbeats 4000000 in
theorem tJ22_stringSize_42 {x : CX} {E : Nat → Value} {Q : Rs → HS → Prop} {X16 : Ct} (EN : EX x E) (G : Gd x cJ22_stringSize "java/lang/Integer" yJ22_stringSize 4 (Option.some Jvm.ClassFile.FieldType.int) Q) (hF : x.1.2.2.2.frames = 2 ∧ x.1.2.2.2.locals = 64) (hC : x.2.2.2.2.2 = (fun _ => false)) (hxt : (∀ z ∈ x.2.2.1.2.1.exceptionTable.toList, False)) (h16 : Snd x 16 X16) : Snd x 42 (bJ22_stringSize_42 E Q X16) := by
  unfold bJ22_stringSize_42
  refine s_bipush (by decide) G.b dJ22_stringSize_42 ?_
  refine s_iload_n rfl G.b dJ22_stringSize_44 ?_
  refine s_iadd G.b dJ22_stringSize_45 ?_
  exact s_ireturn G dJ22_stringSize_46
set_option maxHeartbeats 4000000 in
theorem tJ22_stringSize_31 {x : CX} {E : Nat → Value} {Q : Rs → HS → Prop} {X16 : Ct} (EN : EX x E) (G : Gd x cJ22_stringSize "java/lang/Integer" yJ22_stringSize 4 (Option.some Jvm.ClassFile.FieldType.int) Q) (hF : x.1.2.2.2.frames = 2 ∧ x.1.2.2.2.locals = 64) (hC : x.2.2.2.2.2 = (fun _ => false)) (hxt : (∀ z ∈ x.2.2.1.2.1.exceptionTable.toList, False)) (h16 : Snd x 16 X16) : Snd x 31 (bJ22_stringSize_31 E Q X16) := by
  unfold bJ22_stringSize_31
  refine s_bipush (by decide) G.b dJ22_stringSize_31 ?_
  refine s_iload_n rfl G.b dJ22_stringSize_33 ?_
  refine s_imul G.b dJ22_stringSize_34 ?_
  refine s_istore_n rfl G.b (by rw [G.nl]; decide) (fun _ _ => by rw [hC]) dJ22_stringSize_35 ?_
  refine s_iinc (by decide) G.b (by rw [G.nl]; decide) (fun _ _ => by rw [hC]) dJ22_stringSize_36 ?_
  exact s_goto (tgt := 16) G.b dJ22_stringSize_39 (by decide) h16
set_option maxHeartbeats 4000000 in
theorem tJ22_stringSize_16 {x : CX} {E : Nat → Value} {Q : Rs → HS → Prop} {X16 : Ct} (EN : EX x E) (G : Gd x cJ22_stringSize "java/lang/Integer" yJ22_stringSize 4 (Option.some Jvm.ClassFile.FieldType.int) Q) (hF : x.1.2.2.2.frames = 2 ∧ x.1.2.2.2.locals = 64) (hC : x.2.2.2.2.2 = (fun _ => false)) (hxt : (∀ z ∈ x.2.2.1.2.1.exceptionTable.toList, False)) (h16 : Snd x 16 X16) : Snd x 16 (bJ22_stringSize_16 E Q X16) := by
  unfold bJ22_stringSize_16
  refine s_iload_n rfl G.b dJ22_stringSize_16 ?_
  refine s_bipush (by decide) G.b dJ22_stringSize_17 ?_
  refine s_icmpge (tgt := 42) G.b dJ22_stringSize_19 (by decide) (tJ22_stringSize_42 EN G hF hC hxt h16) ?_
  refine s_iload_n rfl G.b dJ22_stringSize_22 ?_
  refine s_iload_n rfl G.b dJ22_stringSize_23 ?_
  refine s_icmple (tgt := 31) G.b dJ22_stringSize_24 (by decide) (tJ22_stringSize_31 EN G hF hC hxt h16) ?_
  refine s_iload_n rfl G.b dJ22_stringSize_27 ?_
  refine s_iload_n rfl G.b dJ22_stringSize_28 ?_
  refine s_iadd G.b dJ22_stringSize_29 ?_
  exact s_ireturn G dJ22_stringSize_30
set_option maxHeartbeats 4000000 in
theorem tJ22_stringSize_11 {x : CX} {E : Nat → Value} {Q : Rs → HS → Prop} {X16 : Ct} (EN : EX x E) (G : Gd x cJ22_stringSize "java/lang/Integer" yJ22_stringSize 4 (Option.some Jvm.ClassFile.FieldType.int) Q) (hF : x.1.2.2.2.frames = 2 ∧ x.1.2.2.2.locals = 64) (hC : x.2.2.2.2.2 = (fun _ => false)) (hxt : (∀ z ∈ x.2.2.1.2.1.exceptionTable.toList, False)) (h16 : Snd x 16 X16) : Snd x 11 (bJ22_stringSize_11 E Q X16) := by
  unfold bJ22_stringSize_11
  refine s_bipush (by decide) G.b dJ22_stringSize_11 ?_
  refine s_istore_n rfl G.b (by rw [G.nl]; decide) (fun _ _ => by rw [hC]) dJ22_stringSize_13 ?_
  refine s_iconst (by decide) G.b dJ22_stringSize_14 ?_
  refine s_istore_n rfl G.b (by rw [G.nl]; decide) (fun _ _ => by rw [hC]) dJ22_stringSize_15 ?_
  exact h16
set_option maxHeartbeats 4000000 in
theorem tJ22_stringSize_0 {x : CX} {E : Nat → Value} {Q : Rs → HS → Prop} {X16 : Ct} (EN : EX x E) (G : Gd x cJ22_stringSize "java/lang/Integer" yJ22_stringSize 4 (Option.some Jvm.ClassFile.FieldType.int) Q) (hF : x.1.2.2.2.frames = 2 ∧ x.1.2.2.2.locals = 64) (hC : x.2.2.2.2.2 = (fun _ => false)) (hxt : (∀ z ∈ x.2.2.1.2.1.exceptionTable.toList, False)) (h16 : Snd x 16 X16) : Snd x 0 (bJ22_stringSize_0 E Q X16) := by
  unfold bJ22_stringSize_0
  refine s_iconst (by decide) G.b dJ22_stringSize_0 ?_
  refine s_istore_n rfl G.b (by rw [G.nl]; decide) (fun _ _ => by rw [hC]) dJ22_stringSize_1 ?_
  refine s_iload_n rfl G.b dJ22_stringSize_2 ?_
  refine s_iflt (tgt := 11) G.b dJ22_stringSize_3 (by decide) (tJ22_stringSize_11 EN G hF hC hxt h16) ?_
  refine s_iconst (by decide) G.b dJ22_stringSize_6 ?_
  refine s_istore_n rfl G.b (by rw [G.nl]; decide) (fun _ _ => by rw [hC]) dJ22_stringSize_7 ?_
  refine s_iload_n rfl G.b dJ22_stringSize_8 ?_
  refine s_ineg G.b dJ22_stringSize_9 ?_
  refine s_istore_n rfl G.b (by rw [G.nl]; decide) (fun _ _ => by rw [hC]) dJ22_stringSize_10 ?_
  exact (tJ22_stringSize_11 EN G hF hC hxt h16)
set_option maxHeartbeats 4000000 in
theorem mJ22_stringSize {l : Launch} {D : DE} {s0 : State} {E : Nat → Value} (EN : EV l D s0 E) : rMet l D s0 yJ22_stringSize (ws_ yJ22_stringSize cJ22_stringSize 4 (Option.some Jvm.ClassFile.FieldType.int)) 2 64 (wJ22_stringSize E) := by
  refine body_met (fun _ => false) EN.kn (fun w h => h) (by decide +kernel) rfl (fun av h Q hw => ?_) ?_
  · unfold wJ22_stringSize at hw
    split at hw
    · exact Nat.le_of_ble_eq_true rfl
    · exact hw.elim
  · intro p e s m below meth c av h Q hxt G hw
    unfold wJ22_stringSize at hw
    split at hw
    · exact tJ22_stringSize_0 EN G ⟨rfl, rfl⟩ rfl hxt (fun _ _ _ h => h) _ _ _ (hw (AW _ 16) (tJ22_stringSize_16 EN G ⟨rfl, rfl⟩ rfl hxt (fun _ _ _ h => h)))
    · exact hw.elim
/-! java/lang/StringUTF16.getChars(II[B)I (J7_getChars_2) -/
def bJ7_getChars_2_128 (E : Nat → Value) (Q : Rs → HS → Prop) (X22 : Ct) : Ct :=
  o_iload 5 <|
  o_ireturn .int Q
def bJ7_getChars_2_112 (E : Nat → Value) (Q : Rs → HS → Prop) (X22 : Ct) : Ct :=
  o_iload 6 <|
  o_ifeq (bJ7_getChars_2_128 E Q X22) <|
  o_aload 2 <|
  o_iinc 5 (-1) <|
  o_iload 5 <|
  o_push (.int 45) <|
  o_call 3 (wJ7_putChar E) (x_out Q) <|
  (bJ7_getChars_2_128 E Q X22)
def bJ7_getChars_2_76 (E : Nat → Value) (Q : Rs → HS → Prop) (X22 : Ct) : Ct :=
  o_aload 2 <|
  o_iinc 5 (-1) <|
  o_iload 5 <|
  o_push (E 6) <|
  o_iload 0 <|
  o_ineg <|
  o_ald [101, 102] <|
  o_call 3 (wJ7_putChar E) (x_out Q) <|
  o_iload 0 <|
  o_push (.int (-9)) <|
  o_icmpge (bJ7_getChars_2_112 E Q X22) <|
  o_aload 2 <|
  o_iinc 5 (-1) <|
  o_iload 5 <|
  o_push (E 7) <|
  o_iload 0 <|
  o_ineg <|
  o_ald [101, 102] <|
  o_call 3 (wJ7_putChar E) (x_out Q) <|
  (bJ7_getChars_2_112 E Q X22)
def bJ7_getChars_2_22 (E : Nat → Value) (Q : Rs → HS → Prop) (X22 : Ct) : Ct :=
  o_iload 0 <|
  o_push (.int (-100)) <|
  o_icmpgt (bJ7_getChars_2_76 E Q X22) <|
  o_iload 0 <|
  o_push (.int 100) <|
  o_idiv <|
  o_istore 3 <|
  o_iload 3 <|
  o_push (.int 100) <|
  o_imul <|
  o_iload 0 <|
  o_isub <|
  o_istore 4 <|
  o_iload 3 <|
  o_istore 0 <|
  o_aload 2 <|
  o_iinc 5 (-1) <|
  o_iload 5 <|
  o_push (E 6) <|
  o_iload 4 <|
  o_ald [101, 102] <|
  o_call 3 (wJ7_putChar E) (x_out Q) <|
  o_aload 2 <|
  o_iinc 5 (-1) <|
  o_iload 5 <|
  o_push (E 7) <|
  o_iload 4 <|
  o_ald [101, 102] <|
  o_call 3 (wJ7_putChar E) (x_out Q) <|
  X22
def bJ7_getChars_2_12 (E : Nat → Value) (Q : Rs → HS → Prop) (X22 : Ct) : Ct :=
  o_istore 6 <|
  o_iload 6 <|
  o_ifne X22 <|
  o_iload 0 <|
  o_ineg <|
  o_istore 0 <|
  X22
def bJ7_getChars_2_11 (E : Nat → Value) (Q : Rs → HS → Prop) (X22 : Ct) : Ct :=
  o_push (.int 0) <|
  (bJ7_getChars_2_12 E Q X22)
def bJ7_getChars_2_0 (E : Nat → Value) (Q : Rs → HS → Prop) (X22 : Ct) : Ct :=
  o_iload 1 <|
  o_istore 5 <|
  o_iload 0 <|
  o_ifge (bJ7_getChars_2_11 E Q X22) <|
  o_push (.int 1) <|
  (bJ7_getChars_2_12 E Q X22)
def wJ7_getChars_2 (E : Nat → Value) : Wp := fun av h Q => match av with
  | [a0, a1, a2] => ∀ X22 : Ct, (∀ ls st h, bJ7_getChars_2_22 E Q X22 ls st h → X22 ls st h) → bJ7_getChars_2_0 E Q X22 [a0, a1, a2, jk, jk, jk, jk] [] h
  | _ => False
set_option maxHeartbeats 4000000 in
theorem tJ7_getChars_2_128 {x : CX} {E : Nat → Value} {Q : Rs → HS → Prop} {X22 : Ct} (EN : EX x E) (G : Gd x cJ7_getChars_2 "java/lang/StringUTF16" yJ7_getChars_2 7 (Option.some Jvm.ClassFile.FieldType.int) Q) (hF : x.1.2.2.2.frames = 4 ∧ x.1.2.2.2.locals = 106) (hC : x.2.2.2.2.2 = (fun _ => false)) (hxt : (∀ z ∈ x.2.2.1.2.1.exceptionTable.toList, False)) (h22 : Snd x 22 X22) : Snd x 128 (bJ7_getChars_2_128 E Q X22) := by
  unfold bJ7_getChars_2_128
  refine s_iload G.b dJ7_getChars_2_128 ?_
  exact s_ireturn G dJ7_getChars_2_130
set_option maxHeartbeats 4000000 in
theorem tJ7_getChars_2_112 {x : CX} {E : Nat → Value} {Q : Rs → HS → Prop} {X22 : Ct} (EN : EX x E) (G : Gd x cJ7_getChars_2 "java/lang/StringUTF16" yJ7_getChars_2 7 (Option.some Jvm.ClassFile.FieldType.int) Q) (hF : x.1.2.2.2.frames = 4 ∧ x.1.2.2.2.locals = 106) (hC : x.2.2.2.2.2 = (fun _ => false)) (hxt : (∀ z ∈ x.2.2.1.2.1.exceptionTable.toList, False)) (h22 : Snd x 22 X22) : Snd x 112 (bJ7_getChars_2_112 E Q X22) := by
  unfold bJ7_getChars_2_112
  refine s_iload G.b dJ7_getChars_2_112 ?_
  refine s_ifeq (tgt := 128) G.b dJ7_getChars_2_114 (by decide) (tJ7_getChars_2_128 EN G hF hC hxt h22) ?_
  refine s_aload_n rfl G.b dJ7_getChars_2_117 ?_
  refine s_iinc (by decide) G.b (by rw [G.nl]; decide) (fun _ _ => by rw [hC]) dJ7_getChars_2_118 ?_
  refine s_iload G.b dJ7_getChars_2_121 ?_
  refine s_bipush (by decide) G.b dJ7_getChars_2_123 ?_
  refine s_callS G (mJ7_putChar EN) q1180 q1181 q87 q1182 nmk_36 (rm_of hF (Nat.le_of_ble_eq_true rfl) (Nat.le_of_ble_eq_true rfl)) dJ7_getChars_2_125 ?_ (sx_out G (fun z hz => (hxt z hz).elim))
  exact (tJ7_getChars_2_128 EN G hF hC hxt h22)
set_option maxHeartbeats 4000000 in
theorem tJ7_getChars_2_76 {x : CX} {E : Nat → Value} {Q : Rs → HS → Prop} {X22 : Ct} (EN : EX x E) (G : Gd x cJ7_getChars_2 "java/lang/StringUTF16" yJ7_getChars_2 7 (Option.some Jvm.ClassFile.FieldType.int) Q) (hF : x.1.2.2.2.frames = 4 ∧ x.1.2.2.2.locals = 106) (hC : x.2.2.2.2.2 = (fun _ => false)) (hxt : (∀ z ∈ x.2.2.1.2.1.exceptionTable.toList, False)) (h22 : Snd x 22 X22) : Snd x 76 (bJ7_getChars_2_76 E Q X22) := by
  unfold bJ7_getChars_2_76
  refine s_aload_n rfl G.b dJ7_getChars_2_76 ?_
  refine s_iinc (by decide) G.b (by rw [G.nl]; decide) (fun _ _ => by rw [hC]) dJ7_getChars_2_77 ?_
  refine s_iload G.b dJ7_getChars_2_80 ?_
  refine s_getst EN G q1746 (i := 6) rfl dJ7_getChars_2_82 ?_
  refine s_iload_n rfl G.b dJ7_getChars_2_85 ?_
  refine s_ineg G.b dJ7_getChars_2_86 ?_
  refine s_bald G.b G.kn dJ7_getChars_2_87 ?_
  refine s_callS G (mJ7_putChar EN) q1180 q1181 q87 q1182 nmk_36 (rm_of hF (Nat.le_of_ble_eq_true rfl) (Nat.le_of_ble_eq_true rfl)) dJ7_getChars_2_88 ?_ (sx_out G (fun z hz => (hxt z hz).elim))
  refine s_iload_n rfl G.b dJ7_getChars_2_91 ?_
  refine s_bipush (by decide) G.b dJ7_getChars_2_92 ?_
  refine s_icmpge (tgt := 112) G.b dJ7_getChars_2_94 (by decide) (tJ7_getChars_2_112 EN G hF hC hxt h22) ?_
  refine s_aload_n rfl G.b dJ7_getChars_2_97 ?_
  refine s_iinc (by decide) G.b (by rw [G.nl]; decide) (fun _ _ => by rw [hC]) dJ7_getChars_2_98 ?_
  refine s_iload G.b dJ7_getChars_2_101 ?_
  refine s_getst EN G q1747 (i := 7) rfl dJ7_getChars_2_103 ?_
  refine s_iload_n rfl G.b dJ7_getChars_2_106 ?_
  refine s_ineg G.b dJ7_getChars_2_107 ?_
  refine s_bald G.b G.kn dJ7_getChars_2_108 ?_
  refine s_callS G (mJ7_putChar EN) q1180 q1181 q87 q1182 nmk_36 (rm_of hF (Nat.le_of_ble_eq_true rfl) (Nat.le_of_ble_eq_true rfl)) dJ7_getChars_2_109 ?_ (sx_out G (fun z hz => (hxt z hz).elim))
  exact (tJ7_getChars_2_112 EN G hF hC hxt h22)
set_option maxHeartbeats 4000000 in
theorem tJ7_getChars_2_22 {x : CX} {E : Nat → Value} {Q : Rs → HS → Prop} {X22 : Ct} (EN : EX x E) (G : Gd x cJ7_getChars_2 "java/lang/StringUTF16" yJ7_getChars_2 7 (Option.some Jvm.ClassFile.FieldType.int) Q) (hF : x.1.2.2.2.frames = 4 ∧ x.1.2.2.2.locals = 106) (hC : x.2.2.2.2.2 = (fun _ => false)) (hxt : (∀ z ∈ x.2.2.1.2.1.exceptionTable.toList, False)) (h22 : Snd x 22 X22) : Snd x 22 (bJ7_getChars_2_22 E Q X22) := by
  unfold bJ7_getChars_2_22
  refine s_iload_n rfl G.b dJ7_getChars_2_22 ?_
  refine s_bipush (by decide) G.b dJ7_getChars_2_23 ?_
  refine s_icmpgt (tgt := 76) G.b dJ7_getChars_2_25 (by decide) (tJ7_getChars_2_76 EN G hF hC hxt h22) ?_
  refine s_iload_n rfl G.b dJ7_getChars_2_28 ?_
  refine s_bipush (by decide) G.b dJ7_getChars_2_29 ?_
  refine s_idiv G.b dJ7_getChars_2_31 ?_
  refine s_istore_n rfl G.b (by rw [G.nl]; decide) (fun _ _ => by rw [hC]) dJ7_getChars_2_32 ?_
  refine s_iload_n rfl G.b dJ7_getChars_2_33 ?_
  refine s_bipush (by decide) G.b dJ7_getChars_2_34 ?_
  refine s_imul G.b dJ7_getChars_2_36 ?_
  refine s_iload_n rfl G.b dJ7_getChars_2_37 ?_
  refine s_isub G.b dJ7_getChars_2_38 ?_
  refine s_istore G.b (by rw [G.nl]; decide) (fun _ _ => by rw [hC]) dJ7_getChars_2_39 ?_
  refine s_iload_n rfl G.b dJ7_getChars_2_41 ?_
  refine s_istore_n rfl G.b (by rw [G.nl]; decide) (fun _ _ => by rw [hC]) dJ7_getChars_2_42 ?_
  refine s_aload_n rfl G.b dJ7_getChars_2_43 ?_
  refine s_iinc (by decide) G.b (by rw [G.nl]; decide) (fun _ _ => by rw [hC]) dJ7_getChars_2_44 ?_
  refine s_iload G.b dJ7_getChars_2_47 ?_
  refine s_getst EN G q1746 (i := 6) rfl dJ7_getChars_2_49 ?_
  refine s_iload G.b dJ7_getChars_2_52 ?_
  refine s_bald G.b G.kn dJ7_getChars_2_54 ?_
  refine s_callS G (mJ7_putChar EN) q1180 q1181 q87 q1182 nmk_36 (rm_of hF (Nat.le_of_ble_eq_true rfl) (Nat.le_of_ble_eq_true rfl)) dJ7_getChars_2_55 ?_ (sx_out G (fun z hz => (hxt z hz).elim))
  refine s_aload_n rfl G.b dJ7_getChars_2_58 ?_
  refine s_iinc (by decide) G.b (by rw [G.nl]; decide) (fun _ _ => by rw [hC]) dJ7_getChars_2_59 ?_
  refine s_iload G.b dJ7_getChars_2_62 ?_
  refine s_getst EN G q1747 (i := 7) rfl dJ7_getChars_2_64 ?_
  refine s_iload G.b dJ7_getChars_2_67 ?_
  refine s_bald G.b G.kn dJ7_getChars_2_69 ?_
  refine s_callS G (mJ7_putChar EN) q1180 q1181 q87 q1182 nmk_36 (rm_of hF (Nat.le_of_ble_eq_true rfl) (Nat.le_of_ble_eq_true rfl)) dJ7_getChars_2_70 ?_ (sx_out G (fun z hz => (hxt z hz).elim))
  exact s_goto (tgt := 22) G.b dJ7_getChars_2_73 (by decide) h22
set_option maxHeartbeats 4000000 in
theorem tJ7_getChars_2_12 {x : CX} {E : Nat → Value} {Q : Rs → HS → Prop} {X22 : Ct} (EN : EX x E) (G : Gd x cJ7_getChars_2 "java/lang/StringUTF16" yJ7_getChars_2 7 (Option.some Jvm.ClassFile.FieldType.int) Q) (hF : x.1.2.2.2.frames = 4 ∧ x.1.2.2.2.locals = 106) (hC : x.2.2.2.2.2 = (fun _ => false)) (hxt : (∀ z ∈ x.2.2.1.2.1.exceptionTable.toList, False)) (h22 : Snd x 22 X22) : Snd x 12 (bJ7_getChars_2_12 E Q X22) := by
  unfold bJ7_getChars_2_12
  refine s_istore G.b (by rw [G.nl]; decide) (fun _ _ => by rw [hC]) dJ7_getChars_2_12 ?_
  refine s_iload G.b dJ7_getChars_2_14 ?_
  refine s_ifne (tgt := 22) G.b dJ7_getChars_2_16 (by decide) h22 ?_
  refine s_iload_n rfl G.b dJ7_getChars_2_19 ?_
  refine s_ineg G.b dJ7_getChars_2_20 ?_
  refine s_istore_n rfl G.b (by rw [G.nl]; decide) (fun _ _ => by rw [hC]) dJ7_getChars_2_21 ?_
  exact h22
set_option maxHeartbeats 4000000 in
theorem tJ7_getChars_2_11 {x : CX} {E : Nat → Value} {Q : Rs → HS → Prop} {X22 : Ct} (EN : EX x E) (G : Gd x cJ7_getChars_2 "java/lang/StringUTF16" yJ7_getChars_2 7 (Option.some Jvm.ClassFile.FieldType.int) Q) (hF : x.1.2.2.2.frames = 4 ∧ x.1.2.2.2.locals = 106) (hC : x.2.2.2.2.2 = (fun _ => false)) (hxt : (∀ z ∈ x.2.2.1.2.1.exceptionTable.toList, False)) (h22 : Snd x 22 X22) : Snd x 11 (bJ7_getChars_2_11 E Q X22) := by
  unfold bJ7_getChars_2_11
  refine s_iconst (by decide) G.b dJ7_getChars_2_11 ?_
  exact (tJ7_getChars_2_12 EN G hF hC hxt h22)
set_option maxHeartbeats 4000000 in
theorem tJ7_getChars_2_0 {x : CX} {E : Nat → Value} {Q : Rs → HS → Prop} {X22 : Ct} (EN : EX x E) (G : Gd x cJ7_getChars_2 "java/lang/StringUTF16" yJ7_getChars_2 7 (Option.some Jvm.ClassFile.FieldType.int) Q) (hF : x.1.2.2.2.frames = 4 ∧ x.1.2.2.2.locals = 106) (hC : x.2.2.2.2.2 = (fun _ => false)) (hxt : (∀ z ∈ x.2.2.1.2.1.exceptionTable.toList, False)) (h22 : Snd x 22 X22) : Snd x 0 (bJ7_getChars_2_0 E Q X22) := by
  unfold bJ7_getChars_2_0
  refine s_iload_n rfl G.b dJ7_getChars_2_0 ?_
  refine s_istore G.b (by rw [G.nl]; decide) (fun _ _ => by rw [hC]) dJ7_getChars_2_1 ?_
  refine s_iload_n rfl G.b dJ7_getChars_2_3 ?_
  refine s_ifge (tgt := 11) G.b dJ7_getChars_2_4 (by decide) (tJ7_getChars_2_11 EN G hF hC hxt h22) ?_
  refine s_iconst (by decide) G.b dJ7_getChars_2_7 ?_
  exact s_goto (tgt := 12) G.b dJ7_getChars_2_8 (by decide) (tJ7_getChars_2_12 EN G hF hC hxt h22)
set_option maxHeartbeats 4000000 in
theorem mJ7_getChars_2 {l : Launch} {D : DE} {s0 : State} {E : Nat → Value} (EN : EV l D s0 E) : rMet l D s0 yJ7_getChars_2 (ws_ yJ7_getChars_2 cJ7_getChars_2 7 (Option.some Jvm.ClassFile.FieldType.int)) 4 106 (wJ7_getChars_2 E) := by
  refine body_met (fun _ => false) EN.kn (fun w h => h) (by decide +kernel) rfl (fun av h Q hw => ?_) ?_
  · unfold wJ7_getChars_2 at hw
    split at hw
    · exact Nat.le_of_ble_eq_true rfl
    · exact hw.elim
  · intro p e s m below meth c av h Q hxt G hw
    unfold wJ7_getChars_2 at hw
    split at hw
    · exact tJ7_getChars_2_0 EN G ⟨rfl, rfl⟩ rfl hxt (fun _ _ _ h => h) _ _ _ (hw (AW _ 22) (tJ7_getChars_2_22 EN G ⟨rfl, rfl⟩ rfl hxt (fun _ _ _ h => h)))
    · exact hw.elim
/-! java/lang/StringUTF16.getChars(III[B)I (J7_getChars) -/
theorem nmk_234 : nm_ok yJ7_getChars_2 3 := ⟨by decide +kernel, by decide +kernel, by decide +kernel⟩
def bJ7_getChars_34 (E : Nat → Value) (Q : Rs → HS → Prop) : Ct :=
  o_iload 4 <|
  o_ireturn .int Q
def bJ7_getChars_0 (E : Nat → Value) (Q : Rs → HS → Prop) : Ct :=
  o_iload 1 <|
  o_iload 2 <|
  o_aload 3 <|
  o_call 3 (wJ7_checkBoundsBeginEnd E) (x_out Q) <|
  o_iload 0 <|
  o_iload 2 <|
  o_aload 3 <|
  o_call 3 (wJ7_getChars_2 E) (x_out Q) <|
  o_istore 4 <|
  o_push (E 9) <|
  o_ifne (bJ7_getChars_34 E Q) <|
  o_iload 1 <|
  o_iload 4 <|
  o_icmpeq (bJ7_getChars_34 E Q) <|
  o_no
def wJ7_getChars (E : Nat → Value) : Wp := fun av h Q => match av with
  | [a0, a1, a2, a3] => bJ7_getChars_0 E Q [a0, a1, a2, a3, jk] [] h
  | _ => False
set_option maxHeartbeats 4000000 in
theorem tJ7_getChars_34 {x : CX} {E : Nat → Value} {Q : Rs → HS → Prop} (EN : EX x E) (G : Gd x cJ7_getChars "java/lang/StringUTF16" yJ7_getChars 5 (Option.some Jvm.ClassFile.FieldType.int) Q) (hF : x.1.2.2.2.frames = 5 ∧ x.1.2.2.2.locals = 132) (hC : x.2.2.2.2.2 = (fun _ => false)) (hxt : (∀ z ∈ x.2.2.1.2.1.exceptionTable.toList, False)) : Snd x 34 (bJ7_getChars_34 E Q) := by
  unfold bJ7_getChars_34
  refine s_iload G.b dJ7_getChars_34 ?_
  exact s_ireturn G dJ7_getChars_36
set_option maxHeartbeats 4000000 in
theorem tJ7_getChars_0 {x : CX} {E : Nat → Value} {Q : Rs → HS → Prop} (EN : EX x E) (G : Gd x cJ7_getChars "java/lang/StringUTF16" yJ7_getChars 5 (Option.some Jvm.ClassFile.FieldType.int) Q) (hF : x.1.2.2.2.frames = 5 ∧ x.1.2.2.2.locals = 132) (hC : x.2.2.2.2.2 = (fun _ => false)) (hxt : (∀ z ∈ x.2.2.1.2.1.exceptionTable.toList, False)) : Snd x 0 (bJ7_getChars_0 E Q) := by
  unfold bJ7_getChars_0
  refine s_iload_n rfl G.b dJ7_getChars_0 ?_
  refine s_iload_n rfl G.b dJ7_getChars_1 ?_
  refine s_aload_n rfl G.b dJ7_getChars_2 ?_
  refine s_callS G (mJ7_checkBoundsBeginEnd EN) q1532 q1533 q87 q1534 nmk_166 (rm_of hF (Nat.le_of_ble_eq_true rfl) (Nat.le_of_ble_eq_true rfl)) dJ7_getChars_3 ?_ (sx_out G (fun z hz => (hxt z hz).elim))
  refine s_iload_n rfl G.b dJ7_getChars_6 ?_
  refine s_iload_n rfl G.b dJ7_getChars_7 ?_
  refine s_aload_n rfl G.b dJ7_getChars_8 ?_
  refine s_callS G (mJ7_getChars_2 EN) q1743 q1744 q87 q1745 nmk_234 (rm_of hF (Nat.le_of_ble_eq_true rfl) (Nat.le_of_ble_eq_true rfl)) dJ7_getChars_9 ?_ (sx_out G (fun z hz => (hxt z hz).elim))
  refine s_istore G.b (by rw [G.nl]; decide) (fun _ _ => by rw [hC]) dJ7_getChars_12 ?_
  refine s_getst EN G q960 (i := 9) rfl dJ7_getChars_14 ?_
  refine s_ifne (tgt := 34) G.b dJ7_getChars_17 (by decide) (tJ7_getChars_34 EN G hF hC hxt) ?_
  refine s_iload_n rfl G.b dJ7_getChars_20 ?_
  refine s_iload G.b dJ7_getChars_21 ?_
  refine s_icmpeq (tgt := 34) G.b dJ7_getChars_23 (by decide) (tJ7_getChars_34 EN G hF hC hxt) ?_
  exact s_no
set_option maxHeartbeats 4000000 in
theorem mJ7_getChars {l : Launch} {D : DE} {s0 : State} {E : Nat → Value} (EN : EV l D s0 E) : rMet l D s0 yJ7_getChars (ws_ yJ7_getChars cJ7_getChars 5 (Option.some Jvm.ClassFile.FieldType.int)) 5 132 (wJ7_getChars E) := by
  refine body_met (fun _ => false) EN.kn (fun w h => h) (by decide +kernel) rfl (fun av h Q hw => ?_) ?_
  · unfold wJ7_getChars at hw
    split at hw
    · exact Nat.le_of_ble_eq_true rfl
    · exact hw.elim
  · intro p e s m below meth c av h Q hxt G hw
    unfold wJ7_getChars at hw
    split at hw
    · exact tJ7_getChars_0 EN G ⟨rfl, rfl⟩ rfl hxt _ _ _ hw
    · exact hw.elim
/-! java/lang/AbstractStringBuilder.append(I)Ljava/lang/AbstractStringBuilder; (J4_append_2) -/
theorem nmk_235 : nm_ok yJ7_getChars 4 := ⟨by decide +kernel, by decide +kernel, by decide +kernel⟩
theorem nmk_236 : nm_ok yJ22_stringSize 1 := ⟨by decide +kernel, by decide +kernel, by decide +kernel⟩
theorem nmk_237 : nm_ok yJ22_getChars 3 := ⟨by decide +kernel, by decide +kernel, by decide +kernel⟩
def bJ4_append_2_48 (E : Nat → Value) (Q : Rs → HS → Prop) : Ct :=
  o_aload 0 <|
  o_iload 3 <|
  o_putf [18] 3 .int <|
  o_aload 0 <|
  o_areturn Q
def bJ4_append_2_37 (E : Nat → Value) (Q : Rs → HS → Prop) : Ct :=
  o_iload 1 <|
  o_iload 2 <|
  o_iload 3 <|
  o_aload 0 <|
  o_getf [18] 0 <|
  o_call 4 (wJ7_getChars E) (x_out Q) <|
  o_pop <|
  (bJ4_append_2_48 E Q)
def bJ4_append_2_0 (E : Nat → Value) (Q : Rs → HS → Prop) : Ct :=
  o_aload 0 <|
  o_getf [18] 3 <|
  o_istore 2 <|
  o_iload 2 <|
  o_iload 1 <|
  o_call 1 (wJ22_stringSize E) (x_out Q) <|
  o_iadd <|
  o_istore 3 <|
  o_aload 0 <|
  o_iload 3 <|
  o_callV [18] 2 (wJ4_ensureCapacityInternal E) (x_out Q) <|
  o_aload 0 <|
  o_callV [18] 1 (wJ4_isLatin1 E) (x_out Q) <|
  o_ifeq (bJ4_append_2_37 E Q) <|
  o_iload 1 <|
  o_iload 3 <|
  o_aload 0 <|
  o_getf [18] 0 <|
  o_call 3 (wJ22_getChars E) (x_out Q) <|
  o_pop <|
  (bJ4_append_2_48 E Q)
def wJ4_append_2 (E : Nat → Value) : Wp := fun av h Q => match av with
  | [a0, a1] => bJ4_append_2_0 E Q [a0, a1, jk, jk] [] h
  | _ => False
set_option maxHeartbeats 4000000 in
theorem tJ4_append_2_48 {x : CX} {E : Nat → Value} {Q : Rs → HS → Prop} (EN : EX x E) (G : Gd x cJ4_append_2 "java/lang/AbstractStringBuilder" yJ4_append_2 4 (Option.some (Jvm.ClassFile.FieldType.object "java/lang/AbstractStringBuilder")) Q) (hF : x.1.2.2.2.frames = 10 ∧ x.1.2.2.2.locals = 244) (hC : x.2.2.2.2.2 = (fun _ => false)) (hxt : (∀ z ∈ x.2.2.1.2.1.exceptionTable.toList, False)) : Snd x 48 (bJ4_append_2_48 E Q) := by
  unfold bJ4_append_2_48
  refine s_aload_n rfl G.b dJ4_append_2_48 ?_
  refine s_iload_n rfl G.b dJ4_append_2_49 ?_
  refine s_putf G.b G.ow G.kn (G.hts _ q249) (fun _ h => h) fa_23 (la_cons (r := (RJ5, TJ5, 4)) G.hts (by decide) rfl q256 (la_nil)) (by decide +kernel) dJ4_append_2_50 ?_
  refine s_aload_n rfl G.b dJ4_append_2_53 ?_
  exact s_areturn (Or.inl ⟨_, rfl⟩) G dJ4_append_2_54
set_option maxHeartbeats 4000000 in
theorem tJ4_append_2_37 {x : CX} {E : Nat → Value} {Q : Rs → HS → Prop} (EN : EX x E) (G : Gd x cJ4_append_2 "java/lang/AbstractStringBuilder" yJ4_append_2 4 (Option.some (Jvm.ClassFile.FieldType.object "java/lang/AbstractStringBuilder")) Q) (hF : x.1.2.2.2.frames = 10 ∧ x.1.2.2.2.locals = 244) (hC : x.2.2.2.2.2 = (fun _ => false)) (hxt : (∀ z ∈ x.2.2.1.2.1.exceptionTable.toList, False)) : Snd x 37 (bJ4_append_2_37 E Q) := by
  unfold bJ4_append_2_37
  refine s_iload_n rfl G.b dJ4_append_2_37 ?_
  refine s_iload_n rfl G.b dJ4_append_2_38 ?_
  refine s_iload_n rfl G.b dJ4_append_2_39 ?_
  refine s_aload_n rfl G.b dJ4_append_2_40 ?_
  refine s_getf G.b G.ow G.kn (G.hts _ q245) (fun _ h => h) fa_7 dJ4_append_2_41 ?_
  refine s_callS G (mJ7_getChars EN) q1740 q1741 q87 q1742 nmk_235 (rm_of hF (Nat.le_of_ble_eq_true rfl) (Nat.le_of_ble_eq_true rfl)) dJ4_append_2_44 ?_ (sx_out G (fun z hz => (hxt z hz).elim))
  refine s_pop G.b dJ4_append_2_47 ?_
  exact (tJ4_append_2_48 EN G hF hC hxt)
set_option maxHeartbeats 4000000 in
theorem tJ4_append_2_0 {x : CX} {E : Nat → Value} {Q : Rs → HS → Prop} (EN : EX x E) (G : Gd x cJ4_append_2 "java/lang/AbstractStringBuilder" yJ4_append_2 4 (Option.some (Jvm.ClassFile.FieldType.object "java/lang/AbstractStringBuilder")) Q) (hF : x.1.2.2.2.frames = 10 ∧ x.1.2.2.2.locals = 244) (hC : x.2.2.2.2.2 = (fun _ => false)) (hxt : (∀ z ∈ x.2.2.1.2.1.exceptionTable.toList, False)) : Snd x 0 (bJ4_append_2_0 E Q) := by
  unfold bJ4_append_2_0
  refine s_aload_n rfl G.b dJ4_append_2_0 ?_
  refine s_getf G.b G.ow G.kn (G.hts _ q249) (fun _ h => h) fa_23 dJ4_append_2_1 ?_
  refine s_istore_n rfl G.b (by rw [G.nl]; decide) (fun _ _ => by rw [hC]) dJ4_append_2_4 ?_
  refine s_iload_n rfl G.b dJ4_append_2_5 ?_
  refine s_iload_n rfl G.b dJ4_append_2_6 ?_
  refine s_callS G (mJ22_stringSize EN) q1730 q1731 q115 q1732 nmk_236 (rm_of hF (Nat.le_of_ble_eq_true rfl) (Nat.le_of_ble_eq_true rfl)) dJ4_append_2_7 ?_ (sx_out G (fun z hz => (hxt z hz).elim))
  refine s_iadd G.b dJ4_append_2_10 ?_
  refine s_istore_n rfl G.b (by rw [G.nl]; decide) (fun _ _ => by rw [hC]) dJ4_append_2_11 ?_
  refine s_aload_n rfl G.b dJ4_append_2_12 ?_
  refine s_iload_n rfl G.b dJ4_append_2_13 ?_
  refine s_callVP EN (by decide) G (mJ4_ensureCapacityInternal EN) q1135 q1136 q1137 q2347 q84 q1138 nmk_46 (rm_of hF (Nat.le_of_ble_eq_true rfl) (Nat.le_of_ble_eq_true rfl)) dJ4_append_2_14 ?_ (sx_out G (fun z hz => (hxt z hz).elim))
  refine s_aload_n rfl G.b dJ4_append_2_17 ?_
  refine s_callV G (mJ4_isLatin1 EN) q1153 q1154 (sel_cons (r := (RJ5, TJ5, 4)) (by decide) rfl q1156 (sel_nil)) q84 q1157 nmk_40 (rm_of hF (Nat.le_of_ble_eq_true rfl) (Nat.le_of_ble_eq_true rfl)) dJ4_append_2_18 ?_ (sx_out G (fun z hz => (hxt z hz).elim))
  refine s_ifeq (tgt := 37) G.b dJ4_append_2_21 (by decide) (tJ4_append_2_37 EN G hF hC hxt) ?_
  refine s_iload_n rfl G.b dJ4_append_2_24 ?_
  refine s_iload_n rfl G.b dJ4_append_2_25 ?_
  refine s_aload_n rfl G.b dJ4_append_2_26 ?_
  refine s_getf G.b G.ow G.kn (G.hts _ q245) (fun _ h => h) fa_7 dJ4_append_2_27 ?_
  refine s_callS G (mJ22_getChars EN) q1733 q1734 q115 q1735 nmk_237 (rm_of hF (Nat.le_of_ble_eq_true rfl) (Nat.le_of_ble_eq_true rfl)) dJ4_append_2_30 ?_ (sx_out G (fun z hz => (hxt z hz).elim))
  refine s_pop G.b dJ4_append_2_33 ?_
  exact s_goto (tgt := 48) G.b dJ4_append_2_34 (by decide) (tJ4_append_2_48 EN G hF hC hxt)
set_option maxHeartbeats 4000000 in
theorem mJ4_append_2 {l : Launch} {D : DE} {s0 : State} {E : Nat → Value} (EN : EV l D s0 E) : rMet l D s0 yJ4_append_2 (ws_ yJ4_append_2 cJ4_append_2 4 (Option.some (Jvm.ClassFile.FieldType.object "java/lang/AbstractStringBuilder"))) 10 244 (wJ4_append_2 E) := by
  refine body_met (fun _ => false) EN.kn (fun w h => h) (by decide +kernel) rfl (fun av h Q hw => ?_) ?_
  · unfold wJ4_append_2 at hw
    split at hw
    · exact Nat.le_of_ble_eq_true rfl
    · exact hw.elim
  · intro p e s m below meth c av h Q hxt G hw
    unfold wJ4_append_2 at hw
    split at hw
    · exact tJ4_append_2_0 EN G ⟨rfl, rfl⟩ rfl hxt _ _ _ hw
    · exact hw.elim
/-! java/lang/StringBuilder.append(I)Ljava/lang/StringBuilder; (J5_append_2) -/
theorem nmk_238 : nm_ok yJ4_append_2 1 := ⟨by decide +kernel, by decide +kernel, by decide +kernel⟩
def bJ5_append_2_0 (E : Nat → Value) (Q : Rs → HS → Prop) : Ct :=
  o_aload 0 <|
  o_iload 1 <|
  o_callV [18] 2 (wJ4_append_2 E) (x_out Q) <|
  o_pop <|
  o_aload 0 <|
  o_areturn Q
def wJ5_append_2 (E : Nat → Value) : Wp := fun av h Q => match av with
  | [a0, a1] => bJ5_append_2_0 E Q [a0, a1] [] h
  | _ => False
set_option maxHeartbeats 4000000 in
theorem tJ5_append_2_0 {x : CX} {E : Nat → Value} {Q : Rs → HS → Prop} (EN : EX x E) (G : Gd x cJ5_append_2 "java/lang/StringBuilder" yJ5_append_2 2 (Option.some (Jvm.ClassFile.FieldType.object "java/lang/StringBuilder")) Q) (hF : x.1.2.2.2.frames = 11 ∧ x.1.2.2.2.locals = 267) (hC : x.2.2.2.2.2 = (fun _ => false)) (hxt : (∀ z ∈ x.2.2.1.2.1.exceptionTable.toList, False)) : Snd x 0 (bJ5_append_2_0 E Q) := by
  unfold bJ5_append_2_0
  refine s_aload_n rfl G.b dJ5_append_2_0 ?_
  refine s_iload_n rfl G.b dJ5_append_2_1 ?_
  refine s_callSU (by decide) G (mJ4_append_2 EN) q1727 q2355 q258 q1728 q84 q1729 (by decide) nmk_238 (rm_of hF (Nat.le_of_ble_eq_true rfl) (Nat.le_of_ble_eq_true rfl)) dJ5_append_2_2 ?_ (sx_out G (fun z hz => (hxt z hz).elim))
  refine s_pop G.b dJ5_append_2_5 ?_
  refine s_aload_n rfl G.b dJ5_append_2_6 ?_
  exact s_areturn (Or.inl ⟨_, rfl⟩) G dJ5_append_2_7
set_option maxHeartbeats 4000000 in
theorem mJ5_append_2 {l : Launch} {D : DE} {s0 : State} {E : Nat → Value} (EN : EV l D s0 E) : rMet l D s0 yJ5_append_2 (ws_ yJ5_append_2 cJ5_append_2 2 (Option.some (Jvm.ClassFile.FieldType.object "java/lang/StringBuilder"))) 11 267 (wJ5_append_2 E) := by
  refine body_met (fun _ => false) EN.kn (fun w h => h) (by decide +kernel) rfl (fun av h Q hw => ?_) ?_
  · unfold wJ5_append_2 at hw
    split at hw
    · exact Nat.le_of_ble_eq_true rfl
    · exact hw.elim
  · intro p e s m below meth c av h Q hxt G hw
    unfold wJ5_append_2 at hw
    split at hw
    · exact tJ5_append_2_0 EN G ⟨rfl, rfl⟩ rfl hxt _ _ _ hw
    · exact hw.elim
/-! ChantRules.textOf(LChantRules$Arc;)Ljava/lang/String; (X0_textOf_2) -/
theorem nmk_239 : nm_ok yJ5_append_2 1 := ⟨by decide +kernel, by decide +kernel, by decide +kernel⟩
def bX0_textOf_2_85 (E : Nat → Value) (Q : Rs → HS → Prop) : Ct :=
  o_callV [18] 2 (wJ5_append_2 E) (x_out Q) <|
  o_callV [18] 1 (wJ5_toString E) (x_out Q) <|
  o_areturn Q
def bX0_textOf_2_71 (E : Nat → Value) (Q : Rs → HS → Prop) : Ct :=
  o_callV [18] 2 (wJ5_append E) (x_out Q) <|
  o_push (.int 61) <|
  o_callV [18] 2 (wJ5_append E) (x_out Q) <|
  o_aload 0 <|
  o_vsel 1 [10] (o_callV [10] 1 (wX7_weight E) (x_out Q) (bX0_textOf_2_85 E Q)) (o_callV [11] 1 (wX8_weight E) (x_out Q) (bX0_textOf_2_85 E Q))
def bX0_textOf_2_65 (E : Nat → Value) (Q : Rs → HS → Prop) : Ct :=
  o_call 1 (wX0_sound E) (x_out Q) <|
  o_vsel 1 [21] (o_callV [21] 1 (wX4_sign E) (x_out Q) (bX0_textOf_2_71 E Q)) (o_sign1 (bX0_textOf_2_71 E Q))
def bX0_textOf_2_51 (E : Nat → Value) (Q : Rs → HS → Prop) : Ct :=
  o_callV [18] 2 (wJ5_append E) (x_out Q) <|
  o_push (.int 47) <|
  o_callV [18] 2 (wJ5_append E) (x_out Q) <|
  o_aload 0 <|
  o_vsel 1 [10] (o_callV [10] 1 (wX7_sings E) (x_out Q) (bX0_textOf_2_65 E Q)) (o_callV [11] 1 (wX8_sings E) (x_out Q) (bX0_textOf_2_65 E Q))
def bX0_textOf_2_45 (E : Nat → Value) (Q : Rs → HS → Prop) : Ct :=
  o_call 1 (wX0_sound E) (x_out Q) <|
  o_vsel 1 [21] (o_callV [21] 1 (wX4_sign E) (x_out Q) (bX0_textOf_2_51 E Q)) (o_sign1 (bX0_textOf_2_51 E Q))
def bX0_textOf_2_29 (E : Nat → Value) (Q : Rs → HS → Prop) : Ct :=
  o_callV [18] 2 (wJ5_append_2 E) (x_out Q) <|
  o_push (.int 32) <|
  o_callV [18] 2 (wJ5_append E) (x_out Q) <|
  o_pop <|
  o_aload 1 <|
  o_aload 0 <|
  o_vsel 1 [10] (o_callV [10] 1 (wX7_hears E) (x_out Q) (bX0_textOf_2_45 E Q)) (o_callV [11] 1 (wX8_hears E) (x_out Q) (bX0_textOf_2_45 E Q))
def bX0_textOf_2_15 (E : Nat → Value) (Q : Rs → HS → Prop) : Ct :=
  o_callV [18] 2 (wJ5_append_2 E) (x_out Q) <|
  o_push (.int 62) <|
  o_callV [18] 2 (wJ5_append E) (x_out Q) <|
  o_aload 0 <|
  o_vsel 1 [10] (o_callV [10] 1 (wX7_to E) (x_out Q) (bX0_textOf_2_29 E Q)) (o_callV [11] 1 (wX8_to E) (x_out Q) (bX0_textOf_2_29 E Q))
def bX0_textOf_2_0 (E : Nat → Value) (Q : Rs → HS → Prop) : Ct :=
  o_new 18 4 [.null, .int 0, .int 0, .int 0] <|
  o_dup <|
  o_callI 1 (wJ5_init E) (x_out Q) <|
  o_astore 1 <|
  o_aload 1 <|
  o_aload 0 <|
  o_vsel 1 [10] (o_callV [10] 1 (wX7_from E) (x_out Q) (bX0_textOf_2_15 E Q)) (o_callV [11] 1 (wX8_from E) (x_out Q) (bX0_textOf_2_15 E Q))
def wX0_textOf_2 (E : Nat → Value) : Wp := fun av h Q => match av with
  | [a0] => bX0_textOf_2_0 E Q [a0, jk] [] h
  | _ => False
set_option maxHeartbeats 4000000 in
theorem tX0_textOf_2_85 {x : CX} {E : Nat → Value} {Q : Rs → HS → Prop} (EN : EX x E) (G : Gd x cX0_textOf_2 "ChantRules" yX0_textOf_2 2 (Option.some (Jvm.ClassFile.FieldType.object "java/lang/String")) Q) (hF : x.1.2.2.2.frames = 14 ∧ x.1.2.2.2.locals = 336) (hC : x.2.2.2.2.2 = (fun _ => false)) (hxt : (∀ z ∈ x.2.2.1.2.1.exceptionTable.toList, False)) : Snd x 85 (bX0_textOf_2_85 E Q) := by
  unfold bX0_textOf_2_85
  refine s_callV G (mJ5_append_2 EN) q1723 q1724 (sel_cons (r := (RJ5, TJ5, 4)) (by decide) rfl q1725 (sel_nil)) q85 q1726 nmk_239 (rm_of hF (Nat.le_of_ble_eq_true rfl) (Nat.le_of_ble_eq_true rfl)) dX0_textOf_2_85 ?_ (sx_out G (fun z hz => (hxt z hz).elim))
  refine s_callV G (mJ5_toString EN) q1186 q1187 (sel_cons (r := (RJ5, TJ5, 4)) (by decide) rfl q1188 (sel_nil)) q85 q1189 nmk_182 (rm_of hF (Nat.le_of_ble_eq_true rfl) (Nat.le_of_ble_eq_true rfl)) dX0_textOf_2_88 ?_ (sx_out G (fun z hz => (hxt z hz).elim))
  exact s_areturn (Or.inl ⟨_, rfl⟩) G dX0_textOf_2_91
set_option maxHeartbeats 4000000 in
theorem tX0_textOf_2_71 {x : CX} {E : Nat → Value} {Q : Rs → HS → Prop} (EN : EX x E) (G : Gd x cX0_textOf_2 "ChantRules" yX0_textOf_2 2 (Option.some (Jvm.ClassFile.FieldType.object "java/lang/String")) Q) (hF : x.1.2.2.2.frames = 14 ∧ x.1.2.2.2.locals = 336) (hC : x.2.2.2.2.2 = (fun _ => false)) (hxt : (∀ z ∈ x.2.2.1.2.1.exceptionTable.toList, False)) : Snd x 71 (bX0_textOf_2_71 E Q) := by
  unfold bX0_textOf_2_71
  refine s_callV G (mJ5_append EN) q1425 q1129 (sel_cons (r := (RJ5, TJ5, 4)) (by decide) rfl q1130 (sel_nil)) q85 q1131 nmk_49 (rm_of hF (Nat.le_of_ble_eq_true rfl) (Nat.le_of_ble_eq_true rfl)) dX0_textOf_2_71 ?_ (sx_out G (fun z hz => (hxt z hz).elim))
  refine s_bipush (by decide) G.b dX0_textOf_2_74 ?_
  refine s_callV G (mJ5_append EN) q1425 q1129 (sel_cons (r := (RJ5, TJ5, 4)) (by decide) rfl q1130 (sel_nil)) q85 q1131 nmk_49 (rm_of hF (Nat.le_of_ble_eq_true rfl) (Nat.le_of_ble_eq_true rfl)) dX0_textOf_2_76 ?_ (sx_out G (fun z hz => (hxt z hz).elim))
  refine s_aload_n rfl G.b dX0_textOf_2_79 ?_
  exact (s_vsel (s_callF (r0 := (RX7, TX7, 4)) (w := ⟨"ChantRules$Arc", "weight", "()I"⟩) (by decide) rfl G (mX7_weight EN) q829 (va_Fw.moved (by decide +kernel) G.warm.alike ⟨(EN.nw q770 rfl), (EN.nw q769 rfl), (EN.nw q774 rfl), (EN.nw q772 rfl), (EN.nw q287 rfl)⟩) q771 q773 q99 q775 nmk_17 (rm_of hF (Nat.le_of_ble_eq_true rfl) (Nat.le_of_ble_eq_true rfl)) dX0_textOf_2_80 (tX0_textOf_2_85 EN G hF hC hxt) (sx_out G (fun z hz => (hxt z hz).elim)) ) (s_callF (r0 := (RX8, TX8, 5)) (w := ⟨"ChantRules$Arc", "weight", "()I"⟩) (by decide) rfl G (mX8_weight EN) q829 (va_Fw.moved (by decide +kernel) G.warm.alike ⟨(EN.nw q770 rfl), (EN.nw q769 rfl), (EN.nw q779 rfl), (EN.nw q777 rfl), (EN.nw q293 rfl)⟩) q776 q778 q100 q780 nmk_17 (rm_of hF (Nat.le_of_ble_eq_true rfl) (Nat.le_of_ble_eq_true rfl)) dX0_textOf_2_80 (tX0_textOf_2_85 EN G hF hC hxt) (sx_out G (fun z hz => (hxt z hz).elim)) ))
set_option maxHeartbeats 4000000 in
theorem tX0_textOf_2_65 {x : CX} {E : Nat → Value} {Q : Rs → HS → Prop} (EN : EX x E) (G : Gd x cX0_textOf_2 "ChantRules" yX0_textOf_2 2 (Option.some (Jvm.ClassFile.FieldType.object "java/lang/String")) Q) (hF : x.1.2.2.2.frames = 14 ∧ x.1.2.2.2.locals = 336) (hC : x.2.2.2.2.2 = (fun _ => false)) (hxt : (∀ z ∈ x.2.2.1.2.1.exceptionTable.toList, False)) : Snd x 65 (bX0_textOf_2_65 E Q) := by
  unfold bX0_textOf_2_65
  refine s_callS G (mX0_sound EN) q1748 q1107 q76 q1108 nmk_184 (rm_of hF (Nat.le_of_ble_eq_true rfl) (Nat.le_of_ble_eq_true rfl)) dX0_textOf_2_65 ?_ (sx_out G (fun z hz => (hxt z hz).elim))
  exact (s_vsel (s_callV G (mX4_sign EN) q1749 q1120 (sel_cons (r := (RSnd, TSnd, 1)) (by decide) rfl q1121 (sel_nil)) q89 q1126 nmk_185 (rm_of hF (Nat.le_of_ble_eq_true rfl) (Nat.le_of_ble_eq_true rfl)) dX0_textOf_2_68 (tX0_textOf_2_71 EN G hF hC hxt) (sx_out G (fun z hz => (hxt z hz).elim)) ) (s_sign1 EN G (rm_of hF (Nat.le_of_ble_eq_true rfl) (Nat.le_of_ble_eq_true rfl)) q1749 dX0_textOf_2_68 (tX0_textOf_2_71 EN G hF hC hxt) ))
set_option maxHeartbeats 4000000 in
theorem tX0_textOf_2_51 {x : CX} {E : Nat → Value} {Q : Rs → HS → Prop} (EN : EX x E) (G : Gd x cX0_textOf_2 "ChantRules" yX0_textOf_2 2 (Option.some (Jvm.ClassFile.FieldType.object "java/lang/String")) Q) (hF : x.1.2.2.2.frames = 14 ∧ x.1.2.2.2.locals = 336) (hC : x.2.2.2.2.2 = (fun _ => false)) (hxt : (∀ z ∈ x.2.2.1.2.1.exceptionTable.toList, False)) : Snd x 51 (bX0_textOf_2_51 E Q) := by
  unfold bX0_textOf_2_51
  refine s_callV G (mJ5_append EN) q1425 q1129 (sel_cons (r := (RJ5, TJ5, 4)) (by decide) rfl q1130 (sel_nil)) q85 q1131 nmk_49 (rm_of hF (Nat.le_of_ble_eq_true rfl) (Nat.le_of_ble_eq_true rfl)) dX0_textOf_2_51 ?_ (sx_out G (fun z hz => (hxt z hz).elim))
  refine s_bipush (by decide) G.b dX0_textOf_2_54 ?_
  refine s_callV G (mJ5_append EN) q1425 q1129 (sel_cons (r := (RJ5, TJ5, 4)) (by decide) rfl q1130 (sel_nil)) q85 q1131 nmk_49 (rm_of hF (Nat.le_of_ble_eq_true rfl) (Nat.le_of_ble_eq_true rfl)) dX0_textOf_2_56 ?_ (sx_out G (fun z hz => (hxt z hz).elim))
  refine s_aload_n rfl G.b dX0_textOf_2_59 ?_
  exact (s_vsel (s_callF (r0 := (RX7, TX7, 4)) (w := ⟨"ChantRules$Arc", "sings", "()I"⟩) (by decide) rfl G (mX7_sings EN) q738 (va_Fw.moved (by decide +kernel) G.warm.alike ⟨(EN.nw q740 rfl), (EN.nw q739 rfl), (EN.nw q744 rfl), (EN.nw q742 rfl), (EN.nw q287 rfl)⟩) q741 q743 q99 q745 nmk_68 (rm_of hF (Nat.le_of_ble_eq_true rfl) (Nat.le_of_ble_eq_true rfl)) dX0_textOf_2_60 (tX0_textOf_2_65 EN G hF hC hxt) (sx_out G (fun z hz => (hxt z hz).elim)) ) (s_callF (r0 := (RX8, TX8, 5)) (w := ⟨"ChantRules$Arc", "sings", "()I"⟩) (by decide) rfl G (mX8_sings EN) q738 (va_Fw.moved (by decide +kernel) G.warm.alike ⟨(EN.nw q740 rfl), (EN.nw q739 rfl), (EN.nw q749 rfl), (EN.nw q747 rfl), (EN.nw q293 rfl)⟩) q746 q748 q100 q750 nmk_68 (rm_of hF (Nat.le_of_ble_eq_true rfl) (Nat.le_of_ble_eq_true rfl)) dX0_textOf_2_60 (tX0_textOf_2_65 EN G hF hC hxt) (sx_out G (fun z hz => (hxt z hz).elim)) ))
set_option maxHeartbeats 4000000 in
theorem tX0_textOf_2_45 {x : CX} {E : Nat → Value} {Q : Rs → HS → Prop} (EN : EX x E) (G : Gd x cX0_textOf_2 "ChantRules" yX0_textOf_2 2 (Option.some (Jvm.ClassFile.FieldType.object "java/lang/String")) Q) (hF : x.1.2.2.2.frames = 14 ∧ x.1.2.2.2.locals = 336) (hC : x.2.2.2.2.2 = (fun _ => false)) (hxt : (∀ z ∈ x.2.2.1.2.1.exceptionTable.toList, False)) : Snd x 45 (bX0_textOf_2_45 E Q) := by
  unfold bX0_textOf_2_45
  refine s_callS G (mX0_sound EN) q1748 q1107 q76 q1108 nmk_184 (rm_of hF (Nat.le_of_ble_eq_true rfl) (Nat.le_of_ble_eq_true rfl)) dX0_textOf_2_45 ?_ (sx_out G (fun z hz => (hxt z hz).elim))
  exact (s_vsel (s_callV G (mX4_sign EN) q1749 q1120 (sel_cons (r := (RSnd, TSnd, 1)) (by decide) rfl q1121 (sel_nil)) q89 q1126 nmk_185 (rm_of hF (Nat.le_of_ble_eq_true rfl) (Nat.le_of_ble_eq_true rfl)) dX0_textOf_2_48 (tX0_textOf_2_51 EN G hF hC hxt) (sx_out G (fun z hz => (hxt z hz).elim)) ) (s_sign1 EN G (rm_of hF (Nat.le_of_ble_eq_true rfl) (Nat.le_of_ble_eq_true rfl)) q1749 dX0_textOf_2_48 (tX0_textOf_2_51 EN G hF hC hxt) ))
set_option maxHeartbeats 4000000 in
theorem tX0_textOf_2_29 {x : CX} {E : Nat → Value} {Q : Rs → HS → Prop} (EN : EX x E) (G : Gd x cX0_textOf_2 "ChantRules" yX0_textOf_2 2 (Option.some (Jvm.ClassFile.FieldType.object "java/lang/String")) Q) (hF : x.1.2.2.2.frames = 14 ∧ x.1.2.2.2.locals = 336) (hC : x.2.2.2.2.2 = (fun _ => false)) (hxt : (∀ z ∈ x.2.2.1.2.1.exceptionTable.toList, False)) : Snd x 29 (bX0_textOf_2_29 E Q) := by
  unfold bX0_textOf_2_29
  refine s_callV G (mJ5_append_2 EN) q1723 q1724 (sel_cons (r := (RJ5, TJ5, 4)) (by decide) rfl q1725 (sel_nil)) q85 q1726 nmk_239 (rm_of hF (Nat.le_of_ble_eq_true rfl) (Nat.le_of_ble_eq_true rfl)) dX0_textOf_2_29 ?_ (sx_out G (fun z hz => (hxt z hz).elim))
  refine s_bipush (by decide) G.b dX0_textOf_2_32 ?_
  refine s_callV G (mJ5_append EN) q1425 q1129 (sel_cons (r := (RJ5, TJ5, 4)) (by decide) rfl q1130 (sel_nil)) q85 q1131 nmk_49 (rm_of hF (Nat.le_of_ble_eq_true rfl) (Nat.le_of_ble_eq_true rfl)) dX0_textOf_2_34 ?_ (sx_out G (fun z hz => (hxt z hz).elim))
  refine s_pop G.b dX0_textOf_2_37 ?_
  refine s_aload_n rfl G.b dX0_textOf_2_38 ?_
  refine s_aload_n rfl G.b dX0_textOf_2_39 ?_
  exact (s_vsel (s_callF (r0 := (RX7, TX7, 4)) (w := ⟨"ChantRules$Arc", "hears", "()I"⟩) (by decide) rfl G (mX7_hears EN) q284 (va_Fw.moved (by decide +kernel) G.warm.alike ⟨(EN.nw q286 rfl), (EN.nw q285 rfl), (EN.nw q291 rfl), (EN.nw q289 rfl), (EN.nw q287 rfl)⟩) q288 q290 q99 q292 nmk_20 (rm_of hF (Nat.le_of_ble_eq_true rfl) (Nat.le_of_ble_eq_true rfl)) dX0_textOf_2_40 (tX0_textOf_2_45 EN G hF hC hxt) (sx_out G (fun z hz => (hxt z hz).elim)) ) (s_callF (r0 := (RX8, TX8, 5)) (w := ⟨"ChantRules$Arc", "hears", "()I"⟩) (by decide) rfl G (mX8_hears EN) q284 (va_Fw.moved (by decide +kernel) G.warm.alike ⟨(EN.nw q286 rfl), (EN.nw q285 rfl), (EN.nw q297 rfl), (EN.nw q295 rfl), (EN.nw q293 rfl)⟩) q294 q296 q100 q298 nmk_20 (rm_of hF (Nat.le_of_ble_eq_true rfl) (Nat.le_of_ble_eq_true rfl)) dX0_textOf_2_40 (tX0_textOf_2_45 EN G hF hC hxt) (sx_out G (fun z hz => (hxt z hz).elim)) ))
set_option maxHeartbeats 4000000 in
theorem tX0_textOf_2_15 {x : CX} {E : Nat → Value} {Q : Rs → HS → Prop} (EN : EX x E) (G : Gd x cX0_textOf_2 "ChantRules" yX0_textOf_2 2 (Option.some (Jvm.ClassFile.FieldType.object "java/lang/String")) Q) (hF : x.1.2.2.2.frames = 14 ∧ x.1.2.2.2.locals = 336) (hC : x.2.2.2.2.2 = (fun _ => false)) (hxt : (∀ z ∈ x.2.2.1.2.1.exceptionTable.toList, False)) : Snd x 15 (bX0_textOf_2_15 E Q) := by
  unfold bX0_textOf_2_15
  refine s_callV G (mJ5_append_2 EN) q1723 q1724 (sel_cons (r := (RJ5, TJ5, 4)) (by decide) rfl q1725 (sel_nil)) q85 q1726 nmk_239 (rm_of hF (Nat.le_of_ble_eq_true rfl) (Nat.le_of_ble_eq_true rfl)) dX0_textOf_2_15 ?_ (sx_out G (fun z hz => (hxt z hz).elim))
  refine s_bipush (by decide) G.b dX0_textOf_2_18 ?_
  refine s_callV G (mJ5_append EN) q1425 q1129 (sel_cons (r := (RJ5, TJ5, 4)) (by decide) rfl q1130 (sel_nil)) q85 q1131 nmk_49 (rm_of hF (Nat.le_of_ble_eq_true rfl) (Nat.le_of_ble_eq_true rfl)) dX0_textOf_2_20 ?_ (sx_out G (fun z hz => (hxt z hz).elim))
  refine s_aload_n rfl G.b dX0_textOf_2_23 ?_
  exact (s_vsel (s_callF (r0 := (RX7, TX7, 4)) (w := ⟨"ChantRules$Arc", "to", "()I"⟩) (by decide) rfl G (mX7_to EN) q724 (va_Fw.moved (by decide +kernel) G.warm.alike ⟨(EN.nw q726 rfl), (EN.nw q725 rfl), (EN.nw q730 rfl), (EN.nw q728 rfl), (EN.nw q287 rfl)⟩) q727 q729 q99 q731 nmk_69 (rm_of hF (Nat.le_of_ble_eq_true rfl) (Nat.le_of_ble_eq_true rfl)) dX0_textOf_2_24 (tX0_textOf_2_29 EN G hF hC hxt) (sx_out G (fun z hz => (hxt z hz).elim)) ) (s_callF (r0 := (RX8, TX8, 5)) (w := ⟨"ChantRules$Arc", "to", "()I"⟩) (by decide) rfl G (mX8_to EN) q724 (va_Fw.moved (by decide +kernel) G.warm.alike ⟨(EN.nw q726 rfl), (EN.nw q725 rfl), (EN.nw q735 rfl), (EN.nw q733 rfl), (EN.nw q293 rfl)⟩) q732 q734 q100 q736 nmk_69 (rm_of hF (Nat.le_of_ble_eq_true rfl) (Nat.le_of_ble_eq_true rfl)) dX0_textOf_2_24 (tX0_textOf_2_29 EN G hF hC hxt) (sx_out G (fun z hz => (hxt z hz).elim)) ))
set_option maxHeartbeats 4000000 in
theorem tX0_textOf_2_0 {x : CX} {E : Nat → Value} {Q : Rs → HS → Prop} (EN : EX x E) (G : Gd x cX0_textOf_2 "ChantRules" yX0_textOf_2 2 (Option.some (Jvm.ClassFile.FieldType.object "java/lang/String")) Q) (hF : x.1.2.2.2.frames = 14 ∧ x.1.2.2.2.locals = 336) (hC : x.2.2.2.2.2 = (fun _ => false)) (hxt : (∀ z ∈ x.2.2.1.2.1.exceptionTable.toList, False)) : Snd x 0 (bX0_textOf_2_0 E Q) := by
  unfold bX0_textOf_2_0
  refine s_new (C := RJ5) (T0 := TJ5) (N := 4) G.b G.ow G.kn G.gr G.hts rfl (by decide) in_J5 q227 q228 q85 tyJ5 tyJ5_ok rfl dX0_textOf_2_0 ?_
  refine s_dup G.b dX0_textOf_2_3 ?_
  refine s_callI G (mJ5_init EN) rfl q229 q230 q85 q231 nmk_11 (rm_of hF (Nat.le_of_ble_eq_true rfl) (Nat.le_of_ble_eq_true rfl)) dX0_textOf_2_4 ?_ (sx_out G (fun z hz => (hxt z hz).elim))
  refine s_astore_n rfl G.b (by rw [G.nl]; decide) (fun _ _ => by rw [hC]) dX0_textOf_2_7 ?_
  refine s_aload_n rfl G.b dX0_textOf_2_8 ?_
  refine s_aload_n rfl G.b dX0_textOf_2_9 ?_
  exact (s_vsel (s_callF (r0 := (RX7, TX7, 4)) (w := ⟨"ChantRules$Arc", "from", "()I"⟩) (by decide) rfl G (mX7_from EN) q710 (va_Fw.moved (by decide +kernel) G.warm.alike ⟨(EN.nw q712 rfl), (EN.nw q711 rfl), (EN.nw q716 rfl), (EN.nw q714 rfl), (EN.nw q287 rfl)⟩) q713 q715 q99 q717 nmk_70 (rm_of hF (Nat.le_of_ble_eq_true rfl) (Nat.le_of_ble_eq_true rfl)) dX0_textOf_2_10 (tX0_textOf_2_15 EN G hF hC hxt) (sx_out G (fun z hz => (hxt z hz).elim)) ) (s_callF (r0 := (RX8, TX8, 5)) (w := ⟨"ChantRules$Arc", "from", "()I"⟩) (by decide) rfl G (mX8_from EN) q710 (va_Fw.moved (by decide +kernel) G.warm.alike ⟨(EN.nw q712 rfl), (EN.nw q711 rfl), (EN.nw q721 rfl), (EN.nw q719 rfl), (EN.nw q293 rfl)⟩) q718 q720 q100 q722 nmk_70 (rm_of hF (Nat.le_of_ble_eq_true rfl) (Nat.le_of_ble_eq_true rfl)) dX0_textOf_2_10 (tX0_textOf_2_15 EN G hF hC hxt) (sx_out G (fun z hz => (hxt z hz).elim)) ))
set_option maxHeartbeats 4000000 in
theorem mX0_textOf_2 {l : Launch} {D : DE} {s0 : State} {E : Nat → Value} (EN : EV l D s0 E) : rMet l D s0 yX0_textOf_2 (ws_ yX0_textOf_2 cX0_textOf_2 2 (Option.some (Jvm.ClassFile.FieldType.object "java/lang/String"))) 14 336 (wX0_textOf_2 E) := by
  refine body_met (fun _ => false) EN.kn (fun w h => h) (by decide +kernel) rfl (fun av h Q hw => ?_) ?_
  · unfold wX0_textOf_2 at hw
    split at hw
    · exact Nat.le_of_ble_eq_true rfl
    · exact hw.elim
  · intro p e s m below meth c av h Q hxt G hw
    unfold wX0_textOf_2 at hw
    split at hw
    · exact tX0_textOf_2_0 EN G ⟨rfl, rfl⟩ rfl hxt _ _ _ hw
    · exact hw.elim
/-! ChantRules.tell(II)I (X0_tell) -/
theorem nmk_240 : nm_ok yX0_textOf_2 1 := ⟨by decide +kernel, by decide +kernel, by decide +kernel⟩
def bX0_tell_15 (E : Nat → Value) (Q : Rs → HS → Prop) : Ct :=
  o_aload 0 <|
  o_aload 0 <|
  o_getf [0] 1 <|
  o_getf [1] 0 <|
  o_iload 1 <|
  o_ald [103, 104, 105, 106, 107] <|
  o_getf [2] 0 <|
  o_iload 2 <|
  o_callV [15] 2 (wJ2_get E) (x_out Q) <|
  o_cast [10, 11] <|
  o_call 1 (wX0_textOf_2 E) (x_out Q) <|
  o_putf [0] 9 (.object "java/lang/String") <|
  o_aload 0 <|
  o_getf [0] 9 <|
  o_callV [19] 1 (wJ6_length E) (x_out Q) <|
  o_ireturn .int Q
def bX0_tell_0 (E : Nat → Value) (Q : Rs → HS → Prop) : Ct :=
  o_aload 0 <|
  o_getf [0] 1 <|
  o_iload 1 <|
  o_iload 2 <|
  o_callV [1] 3 (wX1_isArc E) (x_out Q) <|
  o_ifne (bX0_tell_15 E Q) <|
  o_push (.int (-11)) <|
  o_ireturn .int Q
def wX0_tell (E : Nat → Value) : Wp := fun av h Q => match av with
  | [a0, a1, a2] => bX0_tell_0 E Q [a0, a1, a2] [] h
  | _ => False
set_option maxHeartbeats 4000000 in
theorem tX0_tell_15 {x : CX} {E : Nat → Value} {Q : Rs → HS → Prop} (EN : EX x E) (G : Gd x cX0_tell "ChantRules" yX0_tell 3 (Option.some Jvm.ClassFile.FieldType.int) Q) (hF : x.1.2.2.2.frames = 15 ∧ x.1.2.2.2.locals = 357) (hC : x.2.2.2.2.2 = (fun _ => false)) (hxt : (∀ z ∈ x.2.2.1.2.1.exceptionTable.toList, False)) : Snd x 15 (bX0_tell_15 E Q) := by
  unfold bX0_tell_15
  refine s_aload_n rfl G.b dX0_tell_15 ?_
  refine s_aload_n rfl G.b dX0_tell_16 ?_
  refine s_getf G.b G.ow G.kn (G.hts _ q300) (fun _ h => h) fa_11 dX0_tell_17 ?_
  refine s_getfN G.b G.ow G.kn (va_Nw.use rfl (va_Nw.warmF G.warm (EN.nw q194 rfl))) (fun _ h => h) fa_5 dX0_tell_20 ?_
  refine s_iload_n rfl G.b dX0_tell_23 ?_
  refine s_aald G.b G.kn dX0_tell_24 ?_
  refine s_getfN G.b G.ow G.kn (va_Nw.use rfl (va_Nw.warmF G.warm (EN.nw q178 rfl))) (fun _ h => h) fa_3 dX0_tell_25 ?_
  refine s_iload_n rfl G.b dX0_tell_28 ?_
  refine s_callV G (mJ2_get EN) q1718 q693 (sel_cons (r := (RJ2, TJ2, 3)) (by decide) rfl q694 (sel_nil)) q82 q695 nmk_78 (rm_of hF (Nat.le_of_ble_eq_true rfl) (Nat.le_of_ble_eq_true rfl)) dX0_tell_29 ?_ (sx_out G (fun z hz => (hxt z hz).elim))
  refine s_cast G.b G.ow G.kn G.hts q1719 ct_1 dX0_tell_32 ?_
  refine s_callS G (mX0_textOf_2 EN) q1720 q1721 q76 q1722 nmk_240 (rm_of hF (Nat.le_of_ble_eq_true rfl) (Nat.le_of_ble_eq_true rfl)) dX0_tell_35 ?_ (sx_out G (fun z hz => (hxt z hz).elim))
  refine s_putf G.b G.ow G.kn (G.hts _ q309) (fun _ h => h) fa_14 (la_cons (r := (RX0, TX0, 10)) G.hts (by decide) rfl q328 (la_nil)) (by decide +kernel) dX0_tell_38 ?_
  refine s_aload_n rfl G.b dX0_tell_41 ?_
  refine s_getf G.b G.ow G.kn (G.hts _ q309) (fun _ h => h) fa_14 dX0_tell_42 ?_
  refine s_callV G (mJ6_length EN) q1236 q982 (sel_cons (r := (RJ6, TJ6, 4)) (by decide) rfl q2351 (sel_nil)) q86 q984 nmk_149 (rm_of hF (Nat.le_of_ble_eq_true rfl) (Nat.le_of_ble_eq_true rfl)) dX0_tell_45 ?_ (sx_out G (fun z hz => (hxt z hz).elim))
  exact s_ireturn G dX0_tell_48
set_option maxHeartbeats 4000000 in
theorem tX0_tell_0 {x : CX} {E : Nat → Value} {Q : Rs → HS → Prop} (EN : EX x E) (G : Gd x cX0_tell "ChantRules" yX0_tell 3 (Option.some Jvm.ClassFile.FieldType.int) Q) (hF : x.1.2.2.2.frames = 15 ∧ x.1.2.2.2.locals = 357) (hC : x.2.2.2.2.2 = (fun _ => false)) (hxt : (∀ z ∈ x.2.2.1.2.1.exceptionTable.toList, False)) : Snd x 0 (bX0_tell_0 E Q) := by
  unfold bX0_tell_0
  refine s_aload_n rfl G.b dX0_tell_0 ?_
  refine s_getf G.b G.ow G.kn (G.hts _ q300) (fun _ h => h) fa_11 dX0_tell_1 ?_
  refine s_iload_n rfl G.b dX0_tell_4 ?_
  refine s_iload_n rfl G.b dX0_tell_5 ?_
  refine s_callV G (mX1_isArc EN) q755 q756 (sel_cons (r := (RX1, TX1, 4)) (by decide) rfl q757 (sel_nil)) q77 q758 nmk_90 (rm_of hF (Nat.le_of_ble_eq_true rfl) (Nat.le_of_ble_eq_true rfl)) dX0_tell_6 ?_ (sx_out G (fun z hz => (hxt z hz).elim))
  refine s_ifne (tgt := 15) G.b dX0_tell_9 (by decide) (tX0_tell_15 EN G hF hC hxt) ?_
  refine s_bipush (by decide) G.b dX0_tell_12 ?_
  exact s_ireturn G dX0_tell_14
set_option maxHeartbeats 4000000 in
theorem mX0_tell {l : Launch} {D : DE} {s0 : State} {E : Nat → Value} (EN : EV l D s0 E) : rMet l D s0 yX0_tell (ws_ yX0_tell cX0_tell 3 (Option.some Jvm.ClassFile.FieldType.int)) 15 357 (wX0_tell E) := by
  refine body_met (fun _ => false) EN.kn (fun w h => h) (by decide +kernel) rfl (fun av h Q hw => ?_) ?_
  · unfold wX0_tell at hw
    split at hw
    · exact Nat.le_of_ble_eq_true rfl
    · exact hw.elim
  · intro p e s m below meth c av h Q hxt G hw
    unfold wX0_tell at hw
    split at hw
    · exact tX0_tell_0 EN G ⟨rfl, rfl⟩ rfl hxt _ _ _ hw
    · exact hw.elim
/-! ChantRules$Rule.text()Ljava/lang/String; (X3_text) -/
def bX3_text_109 (E : Nat → Value) (Q : Rs → HS → Prop) (X15 : Ct) : Ct :=
  o_aload 1 <|
  o_callV [18] 1 (wJ5_toString E) (x_out Q) <|
  o_areturn Q
def bX3_text_99 (E : Nat → Value) (Q : Rs → HS → Prop) (X15 : Ct) : Ct :=
  o_callV [18] 2 (wJ5_append_3 E) (x_out Q) <|
  o_pop <|
  o_iinc 3 1 <|
  X15
def bX3_text_75 (E : Nat → Value) (Q : Rs → HS → Prop) (X15 : Ct) : Ct :=
  o_new 18 4 [.null, .int 0, .int 0, .int 0] <|
  o_dup <|
  o_callI 1 (wJ5_init E) (x_out Q) <|
  o_push (E 106) <|
  o_callV [18] 2 (wJ5_append_3 E) (x_out Q) <|
  o_aload 0 <|
  o_getf [2] 1 <|
  o_iload 3 <|
  o_ald [100] <|
  o_callV [18] 2 (wJ5_append_2 E) (x_out Q) <|
  o_callV [18] 1 (wJ5_toString E) (x_out Q) <|
  (bX3_text_99 E Q X15)
def bX3_text_55 (E : Nat → Value) (Q : Rs → HS → Prop) (X15 : Ct) : Ct :=
  o_callV [18] 2 (wJ5_append_3 E) (x_out Q) <|
  o_pop <|
  o_aload 1 <|
  o_aload 0 <|
  o_getf [2] 1 <|
  o_iload 3 <|
  o_ald [100] <|
  o_push (.int (-1)) <|
  o_icmpne (bX3_text_75 E Q X15) <|
  o_push (E 104) <|
  (bX3_text_99 E Q X15)
def bX3_text_53 (E : Nat → Value) (Q : Rs → HS → Prop) (X15 : Ct) : Ct :=
  o_push (E 104) <|
  (bX3_text_55 E Q X15)
def bX3_text_35 (E : Nat → Value) (Q : Rs → HS → Prop) (X15 : Ct) : Ct :=
  o_callV [18] 2 (wJ5_append_3 E) (x_out Q) <|
  o_iload 3 <|
  o_callV [18] 2 (wJ5_append_2 E) (x_out Q) <|
  o_aload 2 <|
  o_iload 3 <|
  o_ald [101, 102] <|
  o_ifeq (bX3_text_53 E Q X15) <|
  o_push (E 105) <|
  (bX3_text_55 E Q X15)
def bX3_text_33 (E : Nat → Value) (Q : Rs → HS → Prop) (X15 : Ct) : Ct :=
  o_push (E 104) <|
  (bX3_text_35 E Q X15)
def bX3_text_15 (E : Nat → Value) (Q : Rs → HS → Prop) (X15 : Ct) : Ct :=
  o_iload 3 <|
  o_aload 0 <|
  o_getf [2] 2 <|
  o_icmpge (bX3_text_109 E Q X15) <|
  o_aload 1 <|
  o_iload 3 <|
  o_ifle (bX3_text_33 E Q X15) <|
  o_push (E 103) <|
  (bX3_text_35 E Q X15)
def bX3_text_0 (E : Nat → Value) (Q : Rs → HS → Prop) (X15 : Ct) : Ct :=
  o_new 18 4 [.null, .int 0, .int 0, .int 0] <|
  o_dup <|
  o_callI 1 (wJ5_init E) (x_out Q) <|
  o_astore 1 <|
  o_aload 0 <|
  o_callV [2] 1 (wX2_useful_2 E) (x_out Q) <|
  o_astore 2 <|
  o_push (.int 0) <|
  o_istore 3 <|
  X15
def wX3_text (E : Nat → Value) : Wp := fun av h Q => match av with
  | [a0] => ∀ X15 : Ct, (∀ ls st h, bX3_text_15 E Q X15 ls st h → X15 ls st h) → bX3_text_0 E Q X15 [a0, jk, jk, jk] [] h
  | _ => False
set_option maxHeartbeats 4000000 in
theorem tX3_text_109 {x : CX} {E : Nat → Value} {Q : Rs → HS → Prop} {X15 : Ct} (EN : EX x E) (G : Gd x cX3_text "ChantRules$Rule" yX3_text 4 (Option.some (Jvm.ClassFile.FieldType.object "java/lang/String")) Q) (hF : x.1.2.2.2.frames = 14 ∧ x.1.2.2.2.locals = 336) (hC : x.2.2.2.2.2 = (fun _ => false)) (hxt : (∀ z ∈ x.2.2.1.2.1.exceptionTable.toList, False)) (h15 : Snd x 15 X15) : Snd x 109 (bX3_text_109 E Q X15) := by
  unfold bX3_text_109
  refine s_aload_n rfl G.b dX3_text_109 ?_
  refine s_callV G (mJ5_toString EN) q1795 q1187 (sel_cons (r := (RJ5, TJ5, 4)) (by decide) rfl q1188 (sel_nil)) q85 q1189 nmk_182 (rm_of hF (Nat.le_of_ble_eq_true rfl) (Nat.le_of_ble_eq_true rfl)) dX3_text_110 ?_ (sx_out G (fun z hz => (hxt z hz).elim))
  exact s_areturn (Or.inl ⟨_, rfl⟩) G dX3_text_113
set_option maxHeartbeats 4000000 in
theorem tX3_text_99 {x : CX} {E : Nat → Value} {Q : Rs → HS → Prop} {X15 : Ct} (EN : EX x E) (G : Gd x cX3_text "ChantRules$Rule" yX3_text 4 (Option.some (Jvm.ClassFile.FieldType.object "java/lang/String")) Q) (hF : x.1.2.2.2.frames = 14 ∧ x.1.2.2.2.locals = 336) (hC : x.2.2.2.2.2 = (fun _ => false)) (hxt : (∀ z ∈ x.2.2.1.2.1.exceptionTable.toList, False)) (h15 : Snd x 15 X15) : Snd x 99 (bX3_text_99 E Q X15) := by
  unfold bX3_text_99
  refine s_callV G (mJ5_append_3 EN) q1762 q1763 (sel_cons (r := (RJ5, TJ5, 4)) (by decide) rfl q1764 (sel_nil)) q85 q1765 nmk_183 (rm_of hF (Nat.le_of_ble_eq_true rfl) (Nat.le_of_ble_eq_true rfl)) dX3_text_99 ?_ (sx_out G (fun z hz => (hxt z hz).elim))
  refine s_pop G.b dX3_text_102 ?_
  refine s_iinc (by decide) G.b (by rw [G.nl]; decide) (fun _ _ => by rw [hC]) dX3_text_103 ?_
  exact s_goto (tgt := 15) G.b dX3_text_106 (by decide) h15
set_option maxHeartbeats 4000000 in
theorem tX3_text_75 {x : CX} {E : Nat → Value} {Q : Rs → HS → Prop} {X15 : Ct} (EN : EX x E) (G : Gd x cX3_text "ChantRules$Rule" yX3_text 4 (Option.some (Jvm.ClassFile.FieldType.object "java/lang/String")) Q) (hF : x.1.2.2.2.frames = 14 ∧ x.1.2.2.2.locals = 336) (hC : x.2.2.2.2.2 = (fun _ => false)) (hxt : (∀ z ∈ x.2.2.1.2.1.exceptionTable.toList, False)) (h15 : Snd x 15 X15) : Snd x 75 (bX3_text_75 E Q X15) := by
  unfold bX3_text_75
  refine s_new (C := RJ5) (T0 := TJ5) (N := 4) G.b G.ow G.kn G.gr G.hts rfl (by decide) in_J5 q1758 q228 q85 tyJ5 tyJ5_ok rfl dX3_text_75 ?_
  refine s_dup G.b dX3_text_78 ?_
  refine s_callI G (mJ5_init EN) rfl q1759 q230 q85 q231 nmk_11 (rm_of hF (Nat.le_of_ble_eq_true rfl) (Nat.le_of_ble_eq_true rfl)) dX3_text_79 ?_ (sx_out G (fun z hz => (hxt z hz).elim))
  refine s_ldcSt EN G (i := 6) rfl dX3_text_82 ?_
  refine s_callV G (mJ5_append_3 EN) q1762 q1763 (sel_cons (r := (RJ5, TJ5, 4)) (by decide) rfl q1764 (sel_nil)) q85 q1765 nmk_183 (rm_of hF (Nat.le_of_ble_eq_true rfl) (Nat.le_of_ble_eq_true rfl)) dX3_text_84 ?_ (sx_out G (fun z hz => (hxt z hz).elim))
  refine s_aload_n rfl G.b dX3_text_87 ?_
  refine s_getf G.b G.ow G.kn (G.hts _ q179) (fun _ h => h) fa_2 dX3_text_88 ?_
  refine s_iload_n rfl G.b dX3_text_91 ?_
  refine s_iald G.b G.kn dX3_text_92 ?_
  refine s_callV G (mJ5_append_2 EN) q1792 q1724 (sel_cons (r := (RJ5, TJ5, 4)) (by decide) rfl q1725 (sel_nil)) q85 q1726 nmk_239 (rm_of hF (Nat.le_of_ble_eq_true rfl) (Nat.le_of_ble_eq_true rfl)) dX3_text_93 ?_ (sx_out G (fun z hz => (hxt z hz).elim))
  refine s_callV G (mJ5_toString EN) q1795 q1187 (sel_cons (r := (RJ5, TJ5, 4)) (by decide) rfl q1188 (sel_nil)) q85 q1189 nmk_182 (rm_of hF (Nat.le_of_ble_eq_true rfl) (Nat.le_of_ble_eq_true rfl)) dX3_text_96 ?_ (sx_out G (fun z hz => (hxt z hz).elim))
  exact (tX3_text_99 EN G hF hC hxt h15)
set_option maxHeartbeats 4000000 in
theorem tX3_text_55 {x : CX} {E : Nat → Value} {Q : Rs → HS → Prop} {X15 : Ct} (EN : EX x E) (G : Gd x cX3_text "ChantRules$Rule" yX3_text 4 (Option.some (Jvm.ClassFile.FieldType.object "java/lang/String")) Q) (hF : x.1.2.2.2.frames = 14 ∧ x.1.2.2.2.locals = 336) (hC : x.2.2.2.2.2 = (fun _ => false)) (hxt : (∀ z ∈ x.2.2.1.2.1.exceptionTable.toList, False)) (h15 : Snd x 15 X15) : Snd x 55 (bX3_text_55 E Q X15) := by
  unfold bX3_text_55
  refine s_callV G (mJ5_append_3 EN) q1762 q1763 (sel_cons (r := (RJ5, TJ5, 4)) (by decide) rfl q1764 (sel_nil)) q85 q1765 nmk_183 (rm_of hF (Nat.le_of_ble_eq_true rfl) (Nat.le_of_ble_eq_true rfl)) dX3_text_55 ?_ (sx_out G (fun z hz => (hxt z hz).elim))
  refine s_pop G.b dX3_text_58 ?_
  refine s_aload_n rfl G.b dX3_text_59 ?_
  refine s_aload_n rfl G.b dX3_text_60 ?_
  refine s_getf G.b G.ow G.kn (G.hts _ q179) (fun _ h => h) fa_2 dX3_text_61 ?_
  refine s_iload_n rfl G.b dX3_text_64 ?_
  refine s_iald G.b G.kn dX3_text_65 ?_
  refine s_iconst (by decide) G.b dX3_text_66 ?_
  refine s_icmpne (tgt := 75) G.b dX3_text_67 (by decide) (tX3_text_75 EN G hF hC hxt h15) ?_
  refine s_ldcSt EN G (i := 4) rfl dX3_text_70 ?_
  exact s_goto (tgt := 99) G.b dX3_text_72 (by decide) (tX3_text_99 EN G hF hC hxt h15)
set_option maxHeartbeats 4000000 in
theorem tX3_text_53 {x : CX} {E : Nat → Value} {Q : Rs → HS → Prop} {X15 : Ct} (EN : EX x E) (G : Gd x cX3_text "ChantRules$Rule" yX3_text 4 (Option.some (Jvm.ClassFile.FieldType.object "java/lang/String")) Q) (hF : x.1.2.2.2.frames = 14 ∧ x.1.2.2.2.locals = 336) (hC : x.2.2.2.2.2 = (fun _ => false)) (hxt : (∀ z ∈ x.2.2.1.2.1.exceptionTable.toList, False)) (h15 : Snd x 15 X15) : Snd x 53 (bX3_text_53 E Q X15) := by
  unfold bX3_text_53
  refine s_ldcSt EN G (i := 4) rfl dX3_text_53 ?_
  exact (tX3_text_55 EN G hF hC hxt h15)
set_option maxHeartbeats 4000000 in
theorem tX3_text_35 {x : CX} {E : Nat → Value} {Q : Rs → HS → Prop} {X15 : Ct} (EN : EX x E) (G : Gd x cX3_text "ChantRules$Rule" yX3_text 4 (Option.some (Jvm.ClassFile.FieldType.object "java/lang/String")) Q) (hF : x.1.2.2.2.frames = 14 ∧ x.1.2.2.2.locals = 336) (hC : x.2.2.2.2.2 = (fun _ => false)) (hxt : (∀ z ∈ x.2.2.1.2.1.exceptionTable.toList, False)) (h15 : Snd x 15 X15) : Snd x 35 (bX3_text_35 E Q X15) := by
  unfold bX3_text_35
  refine s_callV G (mJ5_append_3 EN) q1762 q1763 (sel_cons (r := (RJ5, TJ5, 4)) (by decide) rfl q1764 (sel_nil)) q85 q1765 nmk_183 (rm_of hF (Nat.le_of_ble_eq_true rfl) (Nat.le_of_ble_eq_true rfl)) dX3_text_35 ?_ (sx_out G (fun z hz => (hxt z hz).elim))
  refine s_iload_n rfl G.b dX3_text_38 ?_
  refine s_callV G (mJ5_append_2 EN) q1792 q1724 (sel_cons (r := (RJ5, TJ5, 4)) (by decide) rfl q1725 (sel_nil)) q85 q1726 nmk_239 (rm_of hF (Nat.le_of_ble_eq_true rfl) (Nat.le_of_ble_eq_true rfl)) dX3_text_39 ?_ (sx_out G (fun z hz => (hxt z hz).elim))
  refine s_aload_n rfl G.b dX3_text_42 ?_
  refine s_iload_n rfl G.b dX3_text_43 ?_
  refine s_bald G.b G.kn dX3_text_44 ?_
  refine s_ifeq (tgt := 53) G.b dX3_text_45 (by decide) (tX3_text_53 EN G hF hC hxt h15) ?_
  refine s_ldcSt EN G (i := 5) rfl dX3_text_48 ?_
  exact s_goto (tgt := 55) G.b dX3_text_50 (by decide) (tX3_text_55 EN G hF hC hxt h15)
set_option maxHeartbeats 4000000 in
theorem tX3_text_33 {x : CX} {E : Nat → Value} {Q : Rs → HS → Prop} {X15 : Ct} (EN : EX x E) (G : Gd x cX3_text "ChantRules$Rule" yX3_text 4 (Option.some (Jvm.ClassFile.FieldType.object "java/lang/String")) Q) (hF : x.1.2.2.2.frames = 14 ∧ x.1.2.2.2.locals = 336) (hC : x.2.2.2.2.2 = (fun _ => false)) (hxt : (∀ z ∈ x.2.2.1.2.1.exceptionTable.toList, False)) (h15 : Snd x 15 X15) : Snd x 33 (bX3_text_33 E Q X15) := by
  unfold bX3_text_33
  refine s_ldcSt EN G (i := 4) rfl dX3_text_33 ?_
  exact (tX3_text_35 EN G hF hC hxt h15)
set_option maxHeartbeats 4000000 in
theorem tX3_text_15 {x : CX} {E : Nat → Value} {Q : Rs → HS → Prop} {X15 : Ct} (EN : EX x E) (G : Gd x cX3_text "ChantRules$Rule" yX3_text 4 (Option.some (Jvm.ClassFile.FieldType.object "java/lang/String")) Q) (hF : x.1.2.2.2.frames = 14 ∧ x.1.2.2.2.locals = 336) (hC : x.2.2.2.2.2 = (fun _ => false)) (hxt : (∀ z ∈ x.2.2.1.2.1.exceptionTable.toList, False)) (h15 : Snd x 15 X15) : Snd x 15 (bX3_text_15 E Q X15) := by
  unfold bX3_text_15
  refine s_iload_n rfl G.b dX3_text_15 ?_
  refine s_aload_n rfl G.b dX3_text_16 ?_
  refine s_getf G.b G.ow G.kn (G.hts _ q180) (fun _ h => h) fa_4 dX3_text_17 ?_
  refine s_icmpge (tgt := 109) G.b dX3_text_20 (by decide) (tX3_text_109 EN G hF hC hxt h15) ?_
  refine s_aload_n rfl G.b dX3_text_23 ?_
  refine s_iload_n rfl G.b dX3_text_24 ?_
  refine s_ifle (tgt := 33) G.b dX3_text_25 (by decide) (tX3_text_33 EN G hF hC hxt h15) ?_
  refine s_ldcSt EN G (i := 3) rfl dX3_text_28 ?_
  exact s_goto (tgt := 35) G.b dX3_text_30 (by decide) (tX3_text_35 EN G hF hC hxt h15)
set_option maxHeartbeats 4000000 in
theorem tX3_text_0 {x : CX} {E : Nat → Value} {Q : Rs → HS → Prop} {X15 : Ct} (EN : EX x E) (G : Gd x cX3_text "ChantRules$Rule" yX3_text 4 (Option.some (Jvm.ClassFile.FieldType.object "java/lang/String")) Q) (hF : x.1.2.2.2.frames = 14 ∧ x.1.2.2.2.locals = 336) (hC : x.2.2.2.2.2 = (fun _ => false)) (hxt : (∀ z ∈ x.2.2.1.2.1.exceptionTable.toList, False)) (h15 : Snd x 15 X15) : Snd x 0 (bX3_text_0 E Q X15) := by
  unfold bX3_text_0
  refine s_new (C := RJ5) (T0 := TJ5) (N := 4) G.b G.ow G.kn G.gr G.hts rfl (by decide) in_J5 q1758 q228 q85 tyJ5 tyJ5_ok rfl dX3_text_0 ?_
  refine s_dup G.b dX3_text_3 ?_
  refine s_callI G (mJ5_init EN) rfl q1759 q230 q85 q231 nmk_11 (rm_of hF (Nat.le_of_ble_eq_true rfl) (Nat.le_of_ble_eq_true rfl)) dX3_text_4 ?_ (sx_out G (fun z hz => (hxt z hz).elim))
  refine s_astore_n rfl G.b (by rw [G.nl]; decide) (fun _ _ => by rw [hC]) dX3_text_7 ?_
  refine s_aload_n rfl G.b dX3_text_8 ?_
  refine s_callVU (w := ⟨"ChantRules$Rule", "useful", "()[Z"⟩) (owner := "ChantRules$Machine") G (mX2_useful_2 EN) q1400 q1401 (va_Decl.of (G.hts _ q902) (G.hts _ q906)) (by decide +kernel) q902 (sel_cons (r := (RX3, TX3, 3)) (by decide) rfl q1403 (sel_nil)) q78 q906 nmk_133 (rm_of hF (Nat.le_of_ble_eq_true rfl) (Nat.le_of_ble_eq_true rfl)) dX3_text_9 ?_ (sx_out G (fun z hz => (hxt z hz).elim))
  refine s_astore_n rfl G.b (by rw [G.nl]; decide) (fun _ _ => by rw [hC]) dX3_text_12 ?_
  refine s_iconst (by decide) G.b dX3_text_13 ?_
  refine s_istore_n rfl G.b (by rw [G.nl]; decide) (fun _ _ => by rw [hC]) dX3_text_14 ?_
  exact h15
set_option maxHeartbeats 4000000 in
theorem mX3_text {l : Launch} {D : DE} {s0 : State} {E : Nat → Value} (EN : EV l D s0 E) : rMet l D s0 yX3_text (ws_ yX3_text cX3_text 4 (Option.some (Jvm.ClassFile.FieldType.object "java/lang/String"))) 14 336 (wX3_text E) := by
  refine body_met (fun _ => false) EN.kn (fun w h => h) (by decide +kernel) rfl (fun av h Q hw => ?_) ?_
  · unfold wX3_text at hw
    split at hw
    · exact Nat.le_of_ble_eq_true rfl
    · exact hw.elim
  · intro p e s m below meth c av h Q hxt G hw
    unfold wX3_text at hw
    split at hw
    · exact tX3_text_0 EN G ⟨rfl, rfl⟩ rfl hxt (fun _ _ _ h => h) _ _ _ (hw (AW _ 15) (tX3_text_15 EN G ⟨rfl, rfl⟩ rfl hxt (fun _ _ _ h => h)))
    · exact hw.elim
/-! ChantRules.tellStates(I)I (X0_tellStates) -/
theorem nmk_241 : nm_ok yX3_text 0 := ⟨by decide +kernel, by decide +kernel, by decide +kernel⟩
def bX0_tellStates_10 (E : Nat → Value) (Q : Rs → HS → Prop) : Ct :=
  o_aload 0 <|
  o_aload 0 <|
  o_getf [0] 1 <|
  o_getf [1] 0 <|
  o_iload 1 <|
  o_ald [103, 104, 105, 106, 107] <|
  o_callV [2] 1 (wX3_text E) (x_out Q) <|
  o_putf [0] 9 (.object "java/lang/String") <|
  o_aload 0 <|
  o_getf [0] 9 <|
  o_callV [19] 1 (wJ6_length E) (x_out Q) <|
  o_ireturn .int Q
def bX0_tellStates_0 (E : Nat → Value) (Q : Rs → HS → Prop) : Ct :=
  o_iload 1 <|
  o_call 1 (wX0_isRule E) (x_out Q) <|
  o_ifne (bX0_tellStates_10 E Q) <|
  o_push (.int (-11)) <|
  o_ireturn .int Q
def wX0_tellStates (E : Nat → Value) : Wp := fun av h Q => match av with
  | [a0, a1] => bX0_tellStates_0 E Q [a0, a1] [] h
  | _ => False
set_option maxHeartbeats 4000000 in
theorem tX0_tellStates_10 {x : CX} {E : Nat → Value} {Q : Rs → HS → Prop} (EN : EX x E) (G : Gd x cX0_tellStates "ChantRules" yX0_tellStates 2 (Option.some Jvm.ClassFile.FieldType.int) Q) (hF : x.1.2.2.2.frames = 15 ∧ x.1.2.2.2.locals = 359) (hC : x.2.2.2.2.2 = (fun _ => false)) (hxt : (∀ z ∈ x.2.2.1.2.1.exceptionTable.toList, False)) : Snd x 10 (bX0_tellStates_10 E Q) := by
  unfold bX0_tellStates_10
  refine s_aload_n rfl G.b dX0_tellStates_10 ?_
  refine s_aload_n rfl G.b dX0_tellStates_11 ?_
  refine s_getf G.b G.ow G.kn (G.hts _ q300) (fun _ h => h) fa_11 dX0_tellStates_12 ?_
  refine s_getfN G.b G.ow G.kn (va_Nw.use rfl (va_Nw.warmF G.warm (EN.nw q194 rfl))) (fun _ h => h) fa_5 dX0_tellStates_15 ?_
  refine s_iload_n rfl G.b dX0_tellStates_18 ?_
  refine s_aald G.b G.kn dX0_tellStates_19 ?_
  refine s_callV G (mX3_text EN) q1754 q1755 (sel_cons (r := (RX3, TX3, 3)) (by decide) rfl q1756 (sel_nil)) q79 q1757 nmk_241 (rm_of hF (Nat.le_of_ble_eq_true rfl) (Nat.le_of_ble_eq_true rfl)) dX0_tellStates_20 ?_ (sx_out G (fun z hz => (hxt z hz).elim))
  refine s_putf G.b G.ow G.kn (G.hts _ q309) (fun _ h => h) fa_14 (la_cons (r := (RX0, TX0, 10)) G.hts (by decide) rfl q328 (la_nil)) (by decide +kernel) dX0_tellStates_23 ?_
  refine s_aload_n rfl G.b dX0_tellStates_26 ?_
  refine s_getf G.b G.ow G.kn (G.hts _ q309) (fun _ h => h) fa_14 dX0_tellStates_27 ?_
  refine s_callV G (mJ6_length EN) q1236 q982 (sel_cons (r := (RJ6, TJ6, 4)) (by decide) rfl q2351 (sel_nil)) q86 q984 nmk_149 (rm_of hF (Nat.le_of_ble_eq_true rfl) (Nat.le_of_ble_eq_true rfl)) dX0_tellStates_30 ?_ (sx_out G (fun z hz => (hxt z hz).elim))
  exact s_ireturn G dX0_tellStates_33
set_option maxHeartbeats 4000000 in
theorem tX0_tellStates_0 {x : CX} {E : Nat → Value} {Q : Rs → HS → Prop} (EN : EX x E) (G : Gd x cX0_tellStates "ChantRules" yX0_tellStates 2 (Option.some Jvm.ClassFile.FieldType.int) Q) (hF : x.1.2.2.2.frames = 15 ∧ x.1.2.2.2.locals = 359) (hC : x.2.2.2.2.2 = (fun _ => false)) (hxt : (∀ z ∈ x.2.2.1.2.1.exceptionTable.toList, False)) : Snd x 0 (bX0_tellStates_0 E Q) := by
  unfold bX0_tellStates_0
  refine s_iload_n rfl G.b dX0_tellStates_0 ?_
  refine s_callS G (mX0_isRule EN) q336 q337 q76 q338 nmk_66 (rm_of hF (Nat.le_of_ble_eq_true rfl) (Nat.le_of_ble_eq_true rfl)) dX0_tellStates_1 ?_ (sx_out G (fun z hz => (hxt z hz).elim))
  refine s_ifne (tgt := 10) G.b dX0_tellStates_4 (by decide) (tX0_tellStates_10 EN G hF hC hxt) ?_
  refine s_bipush (by decide) G.b dX0_tellStates_7 ?_
  exact s_ireturn G dX0_tellStates_9
set_option maxHeartbeats 4000000 in
theorem mX0_tellStates {l : Launch} {D : DE} {s0 : State} {E : Nat → Value} (EN : EV l D s0 E) : rMet l D s0 yX0_tellStates (ws_ yX0_tellStates cX0_tellStates 2 (Option.some Jvm.ClassFile.FieldType.int)) 15 359 (wX0_tellStates E) := by
  refine body_met (fun _ => false) EN.kn (fun w h => h) (by decide +kernel) rfl (fun av h Q hw => ?_) ?_
  · unfold wX0_tellStates at hw
    split at hw
    · exact Nat.le_of_ble_eq_true rfl
    · exact hw.elim
  · intro p e s m below meth c av h Q hxt G hw
    unfold wX0_tellStates at hw
    split at hw
    · exact tX0_tellStates_0 EN G ⟨rfl, rfl⟩ rfl hxt _ _ _ hw
    · exact hw.elim
/-! ChantRules.turn(I)I (X0_turn) -/
def bX0_turn_32 (E : Nat → Value) (Q : Rs → HS → Prop) : Ct :=
  o_astore 3 <|
  o_aload 0 <|
  o_aload 3 <|
  o_callV [0] 2 (wX0_refused E) (x_out Q) <|
  o_ireturn .int Q
def bX0_turn_10 (E : Nat → Value) (Q : Rs → HS → Prop) : Ct :=
  o_aload 0 <|
  o_getf [0] 1 <|
  o_callV [1] 1 (wX1_copy E) (x_out Q) <|
  o_astore 2 <|
  o_aload 0 <|
  o_aload 2 <|
  o_aload 0 <|
  o_getf [0] 1 <|
  o_iload 1 <|
  o_callV [1] 2 (wX1_turns E) (x_catch [9] (bX0_turn_32 E Q) x_no) <|
  o_callV [0] 3 (wX0_changed E) (x_catch [9] (bX0_turn_32 E Q) x_no) <|
  o_ireturn .int Q
def bX0_turn_0 (E : Nat → Value) (Q : Rs → HS → Prop) : Ct :=
  o_iload 1 <|
  o_call 1 (wX0_isRule E) (x_out Q) <|
  o_ifne (bX0_turn_10 E Q) <|
  o_push (.int (-11)) <|
  o_ireturn .int Q
def wX0_turn (E : Nat → Value) : Wp := fun av h Q => match av with
  | [a0, a1] => bX0_turn_0 E Q [a0, a1, jk, jk] [] h
  | _ => False
set_option maxHeartbeats 4000000 in
theorem tX0_turn_32 {x : CX} {E : Nat → Value} {Q : Rs → HS → Prop} (EN : EX x E) (G : Gd x cX0_turn "ChantRules" yX0_turn 4 (Option.some Jvm.ClassFile.FieldType.int) Q) (hF : x.1.2.2.2.frames = 16 ∧ x.1.2.2.2.locals = 376) (hC : x.2.2.2.2.2 = (fun _ => false)) (hxt : (x.2.2.1.2.1.exceptionTable.toList = tableOf [(18, 31, 32, 60)])) : Snd x 32 (bX0_turn_32 E Q) := by
  unfold bX0_turn_32
  refine s_astore_n rfl G.b (by rw [G.nl]; decide) (fun _ _ => by rw [hC]) dX0_turn_32 ?_
  refine s_aload_n rfl G.b dX0_turn_33 ?_
  refine s_aload_n rfl G.b dX0_turn_34 ?_
  refine s_callV G (mX0_refused EN) q588 q590 (sel_cons (r := (RX0, TX0, 10)) (by decide) rfl qs7 (sel_nil)) q76 q591 nmk_81 (rm_of hF (Nat.le_of_ble_eq_true rfl) (Nat.le_of_ble_eq_true rfl)) dX0_turn_35 ?_ (sx_out G (by rw [hxt]; decide +kernel))
  exact s_ireturn G dX0_turn_38
set_option maxHeartbeats 4000000 in
theorem tX0_turn_10 {x : CX} {E : Nat → Value} {Q : Rs → HS → Prop} (EN : EX x E) (G : Gd x cX0_turn "ChantRules" yX0_turn 4 (Option.some Jvm.ClassFile.FieldType.int) Q) (hF : x.1.2.2.2.frames = 16 ∧ x.1.2.2.2.locals = 376) (hC : x.2.2.2.2.2 = (fun _ => false)) (hxt : (x.2.2.1.2.1.exceptionTable.toList = tableOf [(18, 31, 32, 60)])) : Snd x 10 (bX0_turn_10 E Q) := by
  unfold bX0_turn_10
  refine s_aload_n rfl G.b dX0_turn_10 ?_
  refine s_getf G.b G.ow G.kn (G.hts _ q300) (fun _ h => h) fa_11 dX0_turn_11 ?_
  refine s_callV G (mX1_copy EN) q342 q343 (sel_cons (r := (RX1, TX1, 4)) (by decide) rfl q344 (sel_nil)) q77 q345 nmk_82 (rm_of hF (Nat.le_of_ble_eq_true rfl) (Nat.le_of_ble_eq_true rfl)) dX0_turn_14 ?_ (sx_out G (by rw [hxt]; decide +kernel))
  refine s_astore_n rfl G.b (by rw [G.nl]; decide) (fun _ _ => by rw [hC]) dX0_turn_17 ?_
  refine s_aload_n rfl G.b dX0_turn_18 ?_
  refine s_aload_n rfl G.b dX0_turn_19 ?_
  refine s_aload_n rfl G.b dX0_turn_20 ?_
  refine s_getf G.b G.ow G.kn (G.hts _ q300) (fun _ h => h) fa_11 dX0_turn_21 ?_
  refine s_iload_n rfl G.b dX0_turn_24 ?_
  refine s_callV G (mX1_turns EN) q813 q814 (sel_cons (r := (RX1, TX1, 4)) (by decide) rfl q815 (sel_nil)) q77 q816 nmk_142 (rm_of hF (Nat.le_of_ble_eq_true rfl) (Nat.le_of_ble_eq_true rfl)) dX0_turn_25 ?_ (sx_catch G [] (⟨18, 31, 32, 60⟩ : ExceptionTableEntry) [] (by rw [hxt]; rfl) (fun w hw => nomatch hw) (by decide +kernel) (by decide) q335 ct_5 (tX0_turn_32 EN G hF hC hxt) sx_no)
  refine s_callV G (mX0_changed EN) q547 q549 (sel_cons (r := (RX0, TX0, 10)) (by decide) rfl qs4 (sel_nil)) q76 q550 nmk_85 (rm_of hF (Nat.le_of_ble_eq_true rfl) (Nat.le_of_ble_eq_true rfl)) dX0_turn_28 ?_ (sx_catch G [] (⟨18, 31, 32, 60⟩ : ExceptionTableEntry) [] (by rw [hxt]; rfl) (fun w hw => nomatch hw) (by decide +kernel) (by decide) q335 ct_5 (tX0_turn_32 EN G hF hC hxt) sx_no)
  exact s_ireturn G dX0_turn_31
set_option maxHeartbeats 4000000 in
theorem tX0_turn_0 {x : CX} {E : Nat → Value} {Q : Rs → HS → Prop} (EN : EX x E) (G : Gd x cX0_turn "ChantRules" yX0_turn 4 (Option.some Jvm.ClassFile.FieldType.int) Q) (hF : x.1.2.2.2.frames = 16 ∧ x.1.2.2.2.locals = 376) (hC : x.2.2.2.2.2 = (fun _ => false)) (hxt : (x.2.2.1.2.1.exceptionTable.toList = tableOf [(18, 31, 32, 60)])) : Snd x 0 (bX0_turn_0 E Q) := by
  unfold bX0_turn_0
  refine s_iload_n rfl G.b dX0_turn_0 ?_
  refine s_callS G (mX0_isRule EN) q336 q337 q76 q338 nmk_66 (rm_of hF (Nat.le_of_ble_eq_true rfl) (Nat.le_of_ble_eq_true rfl)) dX0_turn_1 ?_ (sx_out G (by rw [hxt]; decide +kernel))
  refine s_ifne (tgt := 10) G.b dX0_turn_4 (by decide) (tX0_turn_10 EN G hF hC hxt) ?_
  refine s_bipush (by decide) G.b dX0_turn_7 ?_
  exact s_ireturn G dX0_turn_9
set_option maxHeartbeats 4000000 in
theorem mX0_turn {l : Launch} {D : DE} {s0 : State} {E : Nat → Value} (EN : EV l D s0 E) : rMet l D s0 yX0_turn (wsW_ yX0_turn cX0_turn 4 (Option.some Jvm.ClassFile.FieldType.int) [(18, 31, 32, 60)]) 16 376 (wX0_turn E) := by
  refine body_metW (fun _ => false) EN.kn (fun w h => h) (by decide +kernel) rfl (fun av h Q hw => ?_) ?_
  · unfold wX0_turn at hw
    split at hw
    · exact Nat.le_of_ble_eq_true rfl
    · exact hw.elim
  · intro p e s m below meth c av h Q hxt G hw
    unfold wX0_turn at hw
    split at hw
    · exact tX0_turn_0 EN G ⟨rfl, rfl⟩ rfl hxt _ _ _ hw
    · exact hw.elim
/-! java/util/ArrayDeque.isEmpty()Z (J3_isEmpty) -/
def bJ3_isEmpty_16 (E : Nat → Value) (Q : Rs → HS → Prop) : Ct :=
  o_ireturn .boolean Q
def bJ3_isEmpty_15 (E : Nat → Value) (Q : Rs → HS → Prop) : Ct :=
  o_push (.int 0) <|
  (bJ3_isEmpty_16 E Q)
def bJ3_isEmpty_0 (E : Nat → Value) (Q : Rs → HS → Prop) : Ct :=
  o_aload 0 <|
  o_getf [17] 1 <|
  o_aload 0 <|
  o_getf [17] 2 <|
  o_icmpne (bJ3_isEmpty_15 E Q) <|
  o_push (.int 1) <|
  (bJ3_isEmpty_16 E Q)
def wJ3_isEmpty (E : Nat → Value) : Wp := fun av h Q => match av with
  | [a0] => bJ3_isEmpty_0 E Q [a0] [] h
  | _ => False
set_option maxHeartbeats 4000000 in
theorem tJ3_isEmpty_16 {x : CX} {E : Nat → Value} {Q : Rs → HS → Prop} (EN : EX x E) (G : Gd x cJ3_isEmpty "java/util/ArrayDeque" yJ3_isEmpty 1 (Option.some Jvm.ClassFile.FieldType.boolean) Q) (hF : x.1.2.2.2.frames = 2 ∧ x.1.2.2.2.locals = 64) (hC : x.2.2.2.2.2 = (fun _ => false)) (hxt : (∀ z ∈ x.2.2.1.2.1.exceptionTable.toList, False)) : Snd x 16 (bJ3_isEmpty_16 E Q) := by
  unfold bJ3_isEmpty_16
  exact s_ireturn G dJ3_isEmpty_16
set_option maxHeartbeats 4000000 in
theorem tJ3_isEmpty_15 {x : CX} {E : Nat → Value} {Q : Rs → HS → Prop} (EN : EX x E) (G : Gd x cJ3_isEmpty "java/util/ArrayDeque" yJ3_isEmpty 1 (Option.some Jvm.ClassFile.FieldType.boolean) Q) (hF : x.1.2.2.2.frames = 2 ∧ x.1.2.2.2.locals = 64) (hC : x.2.2.2.2.2 = (fun _ => false)) (hxt : (∀ z ∈ x.2.2.1.2.1.exceptionTable.toList, False)) : Snd x 15 (bJ3_isEmpty_15 E Q) := by
  unfold bJ3_isEmpty_15
  refine s_iconst (by decide) G.b dJ3_isEmpty_15 ?_
  exact (tJ3_isEmpty_16 EN G hF hC hxt)
set_option maxHeartbeats 4000000 in
theorem tJ3_isEmpty_0 {x : CX} {E : Nat → Value} {Q : Rs → HS → Prop} (EN : EX x E) (G : Gd x cJ3_isEmpty "java/util/ArrayDeque" yJ3_isEmpty 1 (Option.some Jvm.ClassFile.FieldType.boolean) Q) (hF : x.1.2.2.2.frames = 2 ∧ x.1.2.2.2.locals = 64) (hC : x.2.2.2.2.2 = (fun _ => false)) (hxt : (∀ z ∈ x.2.2.1.2.1.exceptionTable.toList, False)) : Snd x 0 (bJ3_isEmpty_0 E Q) := by
  unfold bJ3_isEmpty_0
  refine s_aload_n rfl G.b dJ3_isEmpty_0 ?_
  refine s_getf G.b G.ow G.kn (G.hts _ q218) (fun _ h => h) fa_25 dJ3_isEmpty_1 ?_
  refine s_aload_n rfl G.b dJ3_isEmpty_4 ?_
  refine s_getf G.b G.ow G.kn (G.hts _ q219) (fun _ h => h) fa_24 dJ3_isEmpty_5 ?_
  refine s_icmpne (tgt := 15) G.b dJ3_isEmpty_8 (by decide) (tJ3_isEmpty_15 EN G hF hC hxt) ?_
  refine s_iconst (by decide) G.b dJ3_isEmpty_11 ?_
  exact s_goto (tgt := 16) G.b dJ3_isEmpty_12 (by decide) (tJ3_isEmpty_16 EN G hF hC hxt)
set_option maxHeartbeats 4000000 in
theorem mJ3_isEmpty {l : Launch} {D : DE} {s0 : State} {E : Nat → Value} (EN : EV l D s0 E) : rMet l D s0 yJ3_isEmpty (ws_ yJ3_isEmpty cJ3_isEmpty 1 (Option.some Jvm.ClassFile.FieldType.boolean)) 2 64 (wJ3_isEmpty E) := by
  refine body_met (fun _ => false) EN.kn (fun w h => h) (by decide +kernel) rfl (fun av h Q hw => ?_) ?_
  · unfold wJ3_isEmpty at hw
    split at hw
    · exact Nat.le_of_ble_eq_true rfl
    · exact hw.elim
  · intro p e s m below meth c av h Q hxt G hw
    unfold wJ3_isEmpty at hw
    split at hw
    · exact tJ3_isEmpty_0 EN G ⟨rfl, rfl⟩ rfl hxt _ _ _ hw
    · exact hw.elim
/-! java/util/ArrayDeque.dec(II)I (J3_dec) -/
def bJ3_dec_11 (E : Nat → Value) (Q : Rs → HS → Prop) : Ct :=
  o_iload 0 <|
  o_ireturn .int Q
def bJ3_dec_0 (E : Nat → Value) (Q : Rs → HS → Prop) : Ct :=
  o_iinc 0 (-1) <|
  o_iload 0 <|
  o_ifge (bJ3_dec_11 E Q) <|
  o_iload 1 <|
  o_push (.int 1) <|
  o_isub <|
  o_istore 0 <|
  (bJ3_dec_11 E Q)
def wJ3_dec (E : Nat → Value) : Wp := fun av h Q => match av with
  | [a0, a1] => bJ3_dec_0 E Q [a0, a1] [] h
  | _ => False
set_option maxHeartbeats 4000000 in
theorem tJ3_dec_11 {x : CX} {E : Nat → Value} {Q : Rs → HS → Prop} (EN : EX x E) (G : Gd x cJ3_dec "java/util/ArrayDeque" yJ3_dec 2 (Option.some Jvm.ClassFile.FieldType.int) Q) (hF : x.1.2.2.2.frames = 2 ∧ x.1.2.2.2.locals = 64) (hC : x.2.2.2.2.2 = (fun _ => false)) (hxt : (∀ z ∈ x.2.2.1.2.1.exceptionTable.toList, False)) : Snd x 11 (bJ3_dec_11 E Q) := by
  unfold bJ3_dec_11
  refine s_iload_n rfl G.b dJ3_dec_11 ?_
  exact s_ireturn G dJ3_dec_12
set_option maxHeartbeats 4000000 in
theorem tJ3_dec_0 {x : CX} {E : Nat → Value} {Q : Rs → HS → Prop} (EN : EX x E) (G : Gd x cJ3_dec "java/util/ArrayDeque" yJ3_dec 2 (Option.some Jvm.ClassFile.FieldType.int) Q) (hF : x.1.2.2.2.frames = 2 ∧ x.1.2.2.2.locals = 64) (hC : x.2.2.2.2.2 = (fun _ => false)) (hxt : (∀ z ∈ x.2.2.1.2.1.exceptionTable.toList, False)) : Snd x 0 (bJ3_dec_0 E Q) := by
  unfold bJ3_dec_0
  refine s_iinc (by decide) G.b (by rw [G.nl]; decide) (fun _ _ => by rw [hC]) dJ3_dec_0 ?_
  refine s_iload_n rfl G.b dJ3_dec_3 ?_
  refine s_ifge (tgt := 11) G.b dJ3_dec_4 (by decide) (tJ3_dec_11 EN G hF hC hxt) ?_
  refine s_iload_n rfl G.b dJ3_dec_7 ?_
  refine s_iconst (by decide) G.b dJ3_dec_8 ?_
  refine s_isub G.b dJ3_dec_9 ?_
  refine s_istore_n rfl G.b (by rw [G.nl]; decide) (fun _ _ => by rw [hC]) dJ3_dec_10 ?_
  exact (tJ3_dec_11 EN G hF hC hxt)
set_option maxHeartbeats 4000000 in
theorem mJ3_dec {l : Launch} {D : DE} {s0 : State} {E : Nat → Value} (EN : EV l D s0 E) : rMet l D s0 yJ3_dec (ws_ yJ3_dec cJ3_dec 2 (Option.some Jvm.ClassFile.FieldType.int)) 2 64 (wJ3_dec E) := by
  refine body_met (fun _ => false) EN.kn (fun w h => h) (by decide +kernel) rfl (fun av h Q hw => ?_) ?_
  · unfold wJ3_dec at hw
    split at hw
    · exact Nat.le_of_ble_eq_true rfl
    · exact hw.elim
  · intro p e s m below meth c av h Q hxt G hw
    unfold wJ3_dec at hw
    split at hw
    · exact tJ3_dec_0 EN G ⟨rfl, rfl⟩ rfl hxt _ _ _ hw
    · exact hw.elim
/-! java/util/ArrayDeque.pollLast()Ljava/lang/Object; (J3_pollLast) -/
theorem nmk_242 : nm_ok yJ3_dec 2 := ⟨by decide +kernel, by decide +kernel, by decide +kernel⟩
def bJ3_pollLast_34 (E : Nat → Value) (Q : Rs → HS → Prop) : Ct :=
  o_aload 3 <|
  o_areturn Q
def bJ3_pollLast_0 (E : Nat → Value) (Q : Rs → HS → Prop) : Ct :=
  o_aload 0 <|
  o_getf [17] 0 <|
  o_dup <|
  o_astore 1 <|
  o_aload 0 <|
  o_getf [17] 2 <|
  o_aload 1 <|
  o_alen <|
  o_call 2 (wJ3_dec E) (x_out Q) <|
  o_dup <|
  o_istore 2 <|
  o_call 2 (wJ3_elementAt E) (x_out Q) <|
  o_astore 3 <|
  o_aload 3 <|
  o_ifnull (bJ3_pollLast_34 E Q) <|
  o_aload 1 <|
  o_aload 0 <|
  o_iload 2 <|
  o_dup_x1 <|
  o_putf [17] 2 .int <|
  o_push .null <|
  o_aast <|
  (bJ3_pollLast_34 E Q)
def wJ3_pollLast (E : Nat → Value) : Wp := fun av h Q => match av with
  | [a0] => bJ3_pollLast_0 E Q [a0, jk, jk, jk] [] h
  | _ => False
set_option maxHeartbeats 4000000 in
theorem tJ3_pollLast_34 {x : CX} {E : Nat → Value} {Q : Rs → HS → Prop} (EN : EX x E) (G : Gd x cJ3_pollLast "java/util/ArrayDeque" yJ3_pollLast 4 (Option.some (Jvm.ClassFile.FieldType.object "java/lang/Object")) Q) (hF : x.1.2.2.2.frames = 3 ∧ x.1.2.2.2.locals = 85) (hC : x.2.2.2.2.2 = (fun _ => false)) (hxt : (∀ z ∈ x.2.2.1.2.1.exceptionTable.toList, False)) : Snd x 34 (bJ3_pollLast_34 E Q) := by
  unfold bJ3_pollLast_34
  refine s_aload_n rfl G.b dJ3_pollLast_34 ?_
  exact s_areturn (Or.inl ⟨_, rfl⟩) G dJ3_pollLast_35
set_option maxHeartbeats 4000000 in
theorem tJ3_pollLast_0 {x : CX} {E : Nat → Value} {Q : Rs → HS → Prop} (EN : EX x E) (G : Gd x cJ3_pollLast "java/util/ArrayDeque" yJ3_pollLast 4 (Option.some (Jvm.ClassFile.FieldType.object "java/lang/Object")) Q) (hF : x.1.2.2.2.frames = 3 ∧ x.1.2.2.2.locals = 85) (hC : x.2.2.2.2.2 = (fun _ => false)) (hxt : (∀ z ∈ x.2.2.1.2.1.exceptionTable.toList, False)) : Snd x 0 (bJ3_pollLast_0 E Q) := by
  unfold bJ3_pollLast_0
  refine s_aload_n rfl G.b dJ3_pollLast_0 ?_
  refine s_getf G.b G.ow G.kn (G.hts _ q217) (fun _ h => h) fa_9 dJ3_pollLast_1 ?_
  refine s_dup G.b dJ3_pollLast_4 ?_
  refine s_astore_n rfl G.b (by rw [G.nl]; decide) (fun _ _ => by rw [hC]) dJ3_pollLast_5 ?_
  refine s_aload_n rfl G.b dJ3_pollLast_6 ?_
  refine s_getf G.b G.ow G.kn (G.hts _ q219) (fun _ h => h) fa_24 dJ3_pollLast_7 ?_
  refine s_aload_n rfl G.b dJ3_pollLast_10 ?_
  refine s_alen G.b G.kn dJ3_pollLast_11 ?_
  refine s_callS G (mJ3_dec EN) q1878 q1879 q83 q1880 nmk_242 (rm_of hF (Nat.le_of_ble_eq_true rfl) (Nat.le_of_ble_eq_true rfl)) dJ3_pollLast_12 ?_ (sx_out G (fun z hz => (hxt z hz).elim))
  refine s_dup G.b dJ3_pollLast_15 ?_
  refine s_istore_n rfl G.b (by rw [G.nl]; decide) (fun _ _ => by rw [hC]) dJ3_pollLast_16 ?_
  refine s_callS G (mJ3_elementAt EN) q585 q586 q83 q587 nmk_57 (rm_of hF (Nat.le_of_ble_eq_true rfl) (Nat.le_of_ble_eq_true rfl)) dJ3_pollLast_17 ?_ (sx_out G (fun z hz => (hxt z hz).elim))
  refine s_astore_n rfl G.b (by rw [G.nl]; decide) (fun _ _ => by rw [hC]) dJ3_pollLast_20 ?_
  refine s_aload_n rfl G.b dJ3_pollLast_21 ?_
  refine s_ifnull (tgt := 34) G.b dJ3_pollLast_22 (by decide) (tJ3_pollLast_34 EN G hF hC hxt) ?_
  refine s_aload_n rfl G.b dJ3_pollLast_25 ?_
  refine s_aload_n rfl G.b dJ3_pollLast_26 ?_
  refine s_iload_n rfl G.b dJ3_pollLast_27 ?_
  refine s_dup_x1 G.b dJ3_pollLast_28 ?_
  refine s_putf G.b G.ow G.kn (G.hts _ q219) (fun _ h => h) fa_24 (la_cons (r := (RJ3, TJ3, 3)) G.hts (by decide) rfl q224 (la_nil)) (by decide +kernel) dJ3_pollLast_29 ?_
  refine s_null G.b dJ3_pollLast_32 ?_
  refine s_aast G.b G.kn dJ3_pollLast_33 ?_
  exact (tJ3_pollLast_34 EN G hF hC hxt)
set_option maxHeartbeats 4000000 in
theorem mJ3_pollLast {l : Launch} {D : DE} {s0 : State} {E : Nat → Value} (EN : EV l D s0 E) : rMet l D s0 yJ3_pollLast (ws_ yJ3_pollLast cJ3_pollLast 4 (Option.some (Jvm.ClassFile.FieldType.object "java/lang/Object"))) 3 85 (wJ3_pollLast E) := by
  refine body_met (fun _ => false) EN.kn (fun w h => h) (by decide +kernel) rfl (fun av h Q hw => ?_) ?_
  · unfold wJ3_pollLast at hw
    split at hw
    · exact Nat.le_of_ble_eq_true rfl
    · exact hw.elim
  · intro p e s m below meth c av h Q hxt G hw
    unfold wJ3_pollLast at hw
    split at hw
    · exact tJ3_pollLast_0 EN G ⟨rfl, rfl⟩ rfl hxt _ _ _ hw
    · exact hw.elim
/-! java/util/ArrayDeque.removeLast()Ljava/lang/Object; (J3_removeLast) -/
theorem nmk_243 : nm_ok yJ3_pollLast 0 := ⟨by decide +kernel, by decide +kernel, by decide +kernel⟩
def bJ3_removeLast_17 (E : Nat → Value) (Q : Rs → HS → Prop) : Ct :=
  o_aload 1 <|
  o_areturn Q
def bJ3_removeLast_0 (E : Nat → Value) (Q : Rs → HS → Prop) : Ct :=
  o_aload 0 <|
  o_callV [17] 1 (wJ3_pollLast E) (x_out Q) <|
  o_astore 1 <|
  o_aload 1 <|
  o_ifnonnull (bJ3_removeLast_17 E Q) <|
  o_no
def wJ3_removeLast (E : Nat → Value) : Wp := fun av h Q => match av with
  | [a0] => bJ3_removeLast_0 E Q [a0, jk] [] h
  | _ => False
set_option maxHeartbeats 4000000 in
theorem tJ3_removeLast_17 {x : CX} {E : Nat → Value} {Q : Rs → HS → Prop} (EN : EX x E) (G : Gd x cJ3_removeLast "java/util/ArrayDeque" yJ3_removeLast 2 (Option.some (Jvm.ClassFile.FieldType.object "java/lang/Object")) Q) (hF : x.1.2.2.2.frames = 4 ∧ x.1.2.2.2.locals = 108) (hC : x.2.2.2.2.2 = (fun _ => false)) (hxt : (∀ z ∈ x.2.2.1.2.1.exceptionTable.toList, False)) : Snd x 17 (bJ3_removeLast_17 E Q) := by
  unfold bJ3_removeLast_17
  refine s_aload_n rfl G.b dJ3_removeLast_17 ?_
  exact s_areturn (Or.inl ⟨_, rfl⟩) G dJ3_removeLast_18
set_option maxHeartbeats 4000000 in
theorem tJ3_removeLast_0 {x : CX} {E : Nat → Value} {Q : Rs → HS → Prop} (EN : EX x E) (G : Gd x cJ3_removeLast "java/util/ArrayDeque" yJ3_removeLast 2 (Option.some (Jvm.ClassFile.FieldType.object "java/lang/Object")) Q) (hF : x.1.2.2.2.frames = 4 ∧ x.1.2.2.2.locals = 108) (hC : x.2.2.2.2.2 = (fun _ => false)) (hxt : (∀ z ∈ x.2.2.1.2.1.exceptionTable.toList, False)) : Snd x 0 (bJ3_removeLast_0 E Q) := by
  unfold bJ3_removeLast_0
  refine s_aload_n rfl G.b dJ3_removeLast_0 ?_
  refine s_callV G (mJ3_pollLast EN) q1874 q1875 (sel_cons (r := (RJ3, TJ3, 3)) (by decide) rfl q1876 (sel_nil)) q83 q1877 nmk_243 (rm_of hF (Nat.le_of_ble_eq_true rfl) (Nat.le_of_ble_eq_true rfl)) dJ3_removeLast_1 ?_ (sx_out G (fun z hz => (hxt z hz).elim))
  refine s_astore_n rfl G.b (by rw [G.nl]; decide) (fun _ _ => by rw [hC]) dJ3_removeLast_4 ?_
  refine s_aload_n rfl G.b dJ3_removeLast_5 ?_
  refine s_ifnonnull (tgt := 17) G.b dJ3_removeLast_6 (by decide) (tJ3_removeLast_17 EN G hF hC hxt) ?_
  exact s_no
set_option maxHeartbeats 4000000 in
theorem mJ3_removeLast {l : Launch} {D : DE} {s0 : State} {E : Nat → Value} (EN : EV l D s0 E) : rMet l D s0 yJ3_removeLast (ws_ yJ3_removeLast cJ3_removeLast 2 (Option.some (Jvm.ClassFile.FieldType.object "java/lang/Object"))) 4 108 (wJ3_removeLast E) := by
  refine body_met (fun _ => false) EN.kn (fun w h => h) (by decide +kernel) rfl (fun av h Q hw => ?_) ?_
  · unfold wJ3_removeLast at hw
    split at hw
    · exact Nat.le_of_ble_eq_true rfl
    · exact hw.elim
  · intro p e s m below meth c av h Q hxt G hw
    unfold wJ3_removeLast at hw
    split at hw
    · exact tJ3_removeLast_0 EN G ⟨rfl, rfl⟩ rfl hxt _ _ _ hw
    · exact hw.elim
/-! ChantRules.undo()I (X0_undo) -/
theorem nmk_244 : nm_ok yJ3_removeLast 0 := ⟨by decide +kernel, by decide +kernel, by decide +kernel⟩
theorem ct_13 : ∀ c ∈ [1], (c, "ChantRules$Choir") ∈ ctab := by decide +kernel
theorem nmk_245 : nm_ok yJ3_isEmpty 0 := ⟨by decide +kernel, by decide +kernel, by decide +kernel⟩
def bX0_undo_13 (E : Nat → Value) (Q : Rs → HS → Prop) : Ct :=
  o_aload 0 <|
  o_aload 0 <|
  o_getf [0] 3 <|
  o_callV [17] 1 (wJ3_removeLast E) (x_out Q) <|
  o_cast [1] <|
  o_putf [0] 1 (.object "ChantRules$Choir") <|
  o_aload 0 <|
  o_getf [0] 3 <|
  o_callV [17] 1 (wJ3_size E) (x_out Q) <|
  o_ireturn .int Q
def bX0_undo_0 (E : Nat → Value) (Q : Rs → HS → Prop) : Ct :=
  o_aload 0 <|
  o_getf [0] 3 <|
  o_callV [17] 1 (wJ3_isEmpty E) (x_out Q) <|
  o_ifeq (bX0_undo_13 E Q) <|
  o_push (.int (-15)) <|
  o_ireturn .int Q
def wX0_undo (E : Nat → Value) : Wp := fun av h Q => match av with
  | [a0] => bX0_undo_0 E Q [a0] [] h
  | _ => False
set_option maxHeartbeats 4000000 in
theorem tX0_undo_13 {x : CX} {E : Nat → Value} {Q : Rs → HS → Prop} (EN : EX x E) (G : Gd x cX0_undo "ChantRules" yX0_undo 1 (Option.some Jvm.ClassFile.FieldType.int) Q) (hF : x.1.2.2.2.frames = 5 ∧ x.1.2.2.2.locals = 129) (hC : x.2.2.2.2.2 = (fun _ => false)) (hxt : (∀ z ∈ x.2.2.1.2.1.exceptionTable.toList, False)) : Snd x 13 (bX0_undo_13 E Q) := by
  unfold bX0_undo_13
  refine s_aload_n rfl G.b dX0_undo_13 ?_
  refine s_aload_n rfl G.b dX0_undo_14 ?_
  refine s_getf G.b G.ow G.kn (G.hts _ q302) (fun _ h => h) fa_12 dX0_undo_15 ?_
  refine s_callV G (mJ3_removeLast EN) q1870 q1871 (sel_cons (r := (RJ3, TJ3, 3)) (by decide) rfl q1872 (sel_nil)) q83 q1873 nmk_244 (rm_of hF (Nat.le_of_ble_eq_true rfl) (Nat.le_of_ble_eq_true rfl)) dX0_undo_18 ?_ (sx_out G (fun z hz => (hxt z hz).elim))
  refine s_cast G.b G.ow G.kn G.hts q126 ct_13 dX0_undo_21 ?_
  refine s_putf G.b G.ow G.kn (G.hts _ q300) (fun _ h => h) fa_11 (la_cons (r := (RX0, TX0, 10)) G.hts (by decide) rfl q312 (la_nil)) (by decide +kernel) dX0_undo_24 ?_
  refine s_aload_n rfl G.b dX0_undo_27 ?_
  refine s_getf G.b G.ow G.kn (G.hts _ q302) (fun _ h => h) fa_12 dX0_undo_28 ?_
  refine s_callV G (mJ3_size EN) q570 q571 (sel_cons (r := (RJ3, TJ3, 3)) (by decide) rfl q572 (sel_nil)) q83 q573 nmk_23 (rm_of hF (Nat.le_of_ble_eq_true rfl) (Nat.le_of_ble_eq_true rfl)) dX0_undo_31 ?_ (sx_out G (fun z hz => (hxt z hz).elim))
  exact s_ireturn G dX0_undo_34
set_option maxHeartbeats 4000000 in
theorem tX0_undo_0 {x : CX} {E : Nat → Value} {Q : Rs → HS → Prop} (EN : EX x E) (G : Gd x cX0_undo "ChantRules" yX0_undo 1 (Option.some Jvm.ClassFile.FieldType.int) Q) (hF : x.1.2.2.2.frames = 5 ∧ x.1.2.2.2.locals = 129) (hC : x.2.2.2.2.2 = (fun _ => false)) (hxt : (∀ z ∈ x.2.2.1.2.1.exceptionTable.toList, False)) : Snd x 0 (bX0_undo_0 E Q) := by
  unfold bX0_undo_0
  refine s_aload_n rfl G.b dX0_undo_0 ?_
  refine s_getf G.b G.ow G.kn (G.hts _ q302) (fun _ h => h) fa_12 dX0_undo_1 ?_
  refine s_callV G (mJ3_isEmpty EN) q1866 q1867 (sel_cons (r := (RJ3, TJ3, 3)) (by decide) rfl q1868 (sel_nil)) q83 q1869 nmk_245 (rm_of hF (Nat.le_of_ble_eq_true rfl) (Nat.le_of_ble_eq_true rfl)) dX0_undo_4 ?_ (sx_out G (fun z hz => (hxt z hz).elim))
  refine s_ifeq (tgt := 13) G.b dX0_undo_7 (by decide) (tX0_undo_13 EN G hF hC hxt) ?_
  refine s_bipush (by decide) G.b dX0_undo_10 ?_
  exact s_ireturn G dX0_undo_12
set_option maxHeartbeats 4000000 in
theorem mX0_undo {l : Launch} {D : DE} {s0 : State} {E : Nat → Value} (EN : EV l D s0 E) : rMet l D s0 yX0_undo (ws_ yX0_undo cX0_undo 1 (Option.some Jvm.ClassFile.FieldType.int)) 5 129 (wX0_undo E) := by
  refine body_met (fun _ => false) EN.kn (fun w h => h) (by decide +kernel) rfl (fun av h Q hw => ?_) ?_
  · unfold wX0_undo at hw
    split at hw
    · exact Nat.le_of_ble_eq_true rfl
    · exact hw.elim
  · intro p e s m below meth c av h Q hxt G hw
    unfold wX0_undo at hw
    split at hw
    · exact tX0_undo_0 EN G ⟨rfl, rfl⟩ rfl hxt _ _ _ hw
    · exact hw.elim
/-! ChantRules.usefulShare()F (X0_usefulShare) -/
theorem nmk_246 : nm_ok ⟨"ChantRules$Rule", "usefulMany", "()I"⟩ 0 := ⟨by decide +kernel, by decide +kernel, by decide +kernel⟩
def bX0_usefulShare_0 (E : Nat → Value) (Q : Rs → HS → Prop) : Ct :=
  o_aload 0 <|
  o_getf [0] 1 <|
  o_getf [1] 0 <|
  o_push (.int 0) <|
  o_ald [103, 104, 105, 106, 107] <|
  o_callV [2] 1 (wX2_usefulMany E) (x_out Q) <|
  o_aload 0 <|
  o_getf [0] 1 <|
  o_getf [1] 0 <|
  o_push (.int 1) <|
  o_ald [103, 104, 105, 106, 107] <|
  o_callV [2] 1 (wX2_usefulMany E) (x_out Q) <|
  o_iadd <|
  o_istore 1 <|
  o_iload 1 <|
  o_i2f <|
  o_aload 0 <|
  o_getf [0] 1 <|
  o_getf [1] 0 <|
  o_push (.int 0) <|
  o_ald [103, 104, 105, 106, 107] <|
  o_getf [2] 2 <|
  o_aload 0 <|
  o_getf [0] 1 <|
  o_getf [1] 0 <|
  o_push (.int 1) <|
  o_ald [103, 104, 105, 106, 107] <|
  o_getf [2] 2 <|
  o_iadd <|
  o_i2f <|
  o_fdiv <|
  o_freturn Q
def wX0_usefulShare (E : Nat → Value) : Wp := fun av h Q => match av with
  | [a0] => bX0_usefulShare_0 E Q [a0, jk] [] h
  | _ => False
set_option maxHeartbeats 4000000 in
theorem tX0_usefulShare_0 {x : CX} {E : Nat → Value} {Q : Rs → HS → Prop} (EN : EX x E) (G : Gd x cX0_usefulShare "ChantRules" yX0_usefulShare 2 (Option.some Jvm.ClassFile.FieldType.float) Q) (hF : x.1.2.2.2.frames = 8 ∧ x.1.2.2.2.locals = 203) (hC : x.2.2.2.2.2 = (fun _ => false)) (hxt : (∀ z ∈ x.2.2.1.2.1.exceptionTable.toList, False)) : Snd x 0 (bX0_usefulShare_0 E Q) := by
  unfold bX0_usefulShare_0
  refine s_aload_n rfl G.b dX0_usefulShare_0 ?_
  refine s_getf G.b G.ow G.kn (G.hts _ q300) (fun _ h => h) fa_11 dX0_usefulShare_1 ?_
  refine s_getfN G.b G.ow G.kn (va_Nw.use rfl (va_Nw.warmF G.warm (EN.nw q194 rfl))) (fun _ h => h) fa_5 dX0_usefulShare_4 ?_
  refine s_iconst (by decide) G.b dX0_usefulShare_7 ?_
  refine s_aald G.b G.kn dX0_usefulShare_8 ?_
  refine s_callVU (w := ⟨"ChantRules$Rule", "usefulMany", "()I"⟩) (owner := "ChantRules$Machine") G (mX2_usefulMany EN) q1859 q1860 (va_Decl.of (G.hts _ q1374) (G.hts _ q1375)) (by decide +kernel) q1374 (sel_cons (r := (RX3, TX3, 3)) (by decide) rfl q1861 (sel_nil)) q78 q1375 nmk_246 (rm_of hF (Nat.le_of_ble_eq_true rfl) (Nat.le_of_ble_eq_true rfl)) dX0_usefulShare_9 ?_ (sx_out G (fun z hz => (hxt z hz).elim))
  refine s_aload_n rfl G.b dX0_usefulShare_12 ?_
  refine s_getf G.b G.ow G.kn (G.hts _ q300) (fun _ h => h) fa_11 dX0_usefulShare_13 ?_
  refine s_getfN G.b G.ow G.kn (va_Nw.use rfl (va_Nw.warmF G.warm (EN.nw q194 rfl))) (fun _ h => h) fa_5 dX0_usefulShare_16 ?_
  refine s_iconst (by decide) G.b dX0_usefulShare_19 ?_
  refine s_aald G.b G.kn dX0_usefulShare_20 ?_
  refine s_callVU (w := ⟨"ChantRules$Rule", "usefulMany", "()I"⟩) (owner := "ChantRules$Machine") G (mX2_usefulMany EN) q1859 q1860 (va_Decl.of (G.hts _ q1374) (G.hts _ q1375)) (by decide +kernel) q1374 (sel_cons (r := (RX3, TX3, 3)) (by decide) rfl q1861 (sel_nil)) q78 q1375 nmk_246 (rm_of hF (Nat.le_of_ble_eq_true rfl) (Nat.le_of_ble_eq_true rfl)) dX0_usefulShare_21 ?_ (sx_out G (fun z hz => (hxt z hz).elim))
  refine s_iadd G.b dX0_usefulShare_24 ?_
  refine s_istore_n rfl G.b (by rw [G.nl]; decide) (fun _ _ => by rw [hC]) dX0_usefulShare_25 ?_
  refine s_iload_n rfl G.b dX0_usefulShare_26 ?_
  refine s_i2f G.b dX0_usefulShare_27 ?_
  refine s_aload_n rfl G.b dX0_usefulShare_28 ?_
  refine s_getf G.b G.ow G.kn (G.hts _ q300) (fun _ h => h) fa_11 dX0_usefulShare_29 ?_
  refine s_getfN G.b G.ow G.kn (va_Nw.use rfl (va_Nw.warmF G.warm (EN.nw q194 rfl))) (fun _ h => h) fa_5 dX0_usefulShare_32 ?_
  refine s_iconst (by decide) G.b dX0_usefulShare_35 ?_
  refine s_aald G.b G.kn dX0_usefulShare_36 ?_
  refine s_getfN G.b G.ow G.kn (va_Nw.use rfl (va_Nw.warmF G.warm (EN.nw q183 rfl))) (fun _ h => h) fa_4 dX0_usefulShare_37 ?_
  refine s_aload_n rfl G.b dX0_usefulShare_40 ?_
  refine s_getf G.b G.ow G.kn (G.hts _ q300) (fun _ h => h) fa_11 dX0_usefulShare_41 ?_
  refine s_getfN G.b G.ow G.kn (va_Nw.use rfl (va_Nw.warmF G.warm (EN.nw q194 rfl))) (fun _ h => h) fa_5 dX0_usefulShare_44 ?_
  refine s_iconst (by decide) G.b dX0_usefulShare_47 ?_
  refine s_aald G.b G.kn dX0_usefulShare_48 ?_
  refine s_getfN G.b G.ow G.kn (va_Nw.use rfl (va_Nw.warmF G.warm (EN.nw q183 rfl))) (fun _ h => h) fa_4 dX0_usefulShare_49 ?_
  refine s_iadd G.b dX0_usefulShare_52 ?_
  refine s_i2f G.b dX0_usefulShare_53 ?_
  refine s_fdiv G.b dX0_usefulShare_54 ?_
  exact s_freturn G dX0_usefulShare_55
set_option maxHeartbeats 4000000 in
theorem mX0_usefulShare {l : Launch} {D : DE} {s0 : State} {E : Nat → Value} (EN : EV l D s0 E) : rMet l D s0 yX0_usefulShare (ws_ yX0_usefulShare cX0_usefulShare 2 (Option.some Jvm.ClassFile.FieldType.float)) 8 203 (wX0_usefulShare E) := by
  refine body_met (fun _ => false) EN.kn (fun w h => h) (by decide +kernel) rfl (fun av h Q hw => ?_) ?_
  · unfold wX0_usefulShare at hw
    split at hw
    · exact Nat.le_of_ble_eq_true rfl
    · exact hw.elim
  · intro p e s m below meth c av h Q hxt G hw
    unfold wX0_usefulShare at hw
    split at hw
    · exact tX0_usefulShare_0 EN G ⟨rfl, rfl⟩ rfl hxt _ _ _ hw
    · exact hw.elim
/-! ChantRules.weigh(III)I (X0_weigh) -/
def bX0_weigh_55 (E : Nat → Value) (Q : Rs → HS → Prop) : Ct :=
  o_astore 5 <|
  o_aload 0 <|
  o_aload 5 <|
  o_callV [0] 2 (wX0_refused E) (x_out Q) <|
  o_ireturn .int Q
def bX0_weigh_25 (E : Nat → Value) (Q : Rs → HS → Prop) : Ct :=
  o_aload 0 <|
  o_getf [0] 1 <|
  o_callV [1] 1 (wX1_copy E) (x_out Q) <|
  o_astore 4 <|
  o_aload 0 <|
  o_aload 4 <|
  o_aload 0 <|
  o_getf [0] 1 <|
  o_getf [1] 0 <|
  o_iload 1 <|
  o_ald [103, 104, 105, 106, 107] <|
  o_iload 2 <|
  o_iload 3 <|
  o_callV [2] 3 (wX3_weighs E) (x_catch [9] (bX0_weigh_55 E Q) x_no) <|
  o_callV [0] 3 (wX0_changed E) (x_catch [9] (bX0_weigh_55 E Q) x_no) <|
  o_ireturn .int Q
def bX0_weigh_15 (E : Nat → Value) (Q : Rs → HS → Prop) : Ct :=
  o_iload 3 <|
  o_call 1 (wX0_isWeight E) (x_out Q) <|
  o_ifne (bX0_weigh_25 E Q) <|
  o_push (.int (-12)) <|
  o_ireturn .int Q
def bX0_weigh_0 (E : Nat → Value) (Q : Rs → HS → Prop) : Ct :=
  o_aload 0 <|
  o_getf [0] 1 <|
  o_iload 1 <|
  o_iload 2 <|
  o_callV [1] 3 (wX1_isArc E) (x_out Q) <|
  o_ifne (bX0_weigh_15 E Q) <|
  o_push (.int (-11)) <|
  o_ireturn .int Q
def wX0_weigh (E : Nat → Value) : Wp := fun av h Q => match av with
  | [a0, a1, a2, a3] => bX0_weigh_0 E Q [a0, a1, a2, a3, jk, jk] [] h
  | _ => False
set_option maxHeartbeats 4000000 in
theorem tX0_weigh_55 {x : CX} {E : Nat → Value} {Q : Rs → HS → Prop} (EN : EX x E) (G : Gd x cX0_weigh "ChantRules" yX0_weigh 6 (Option.some Jvm.ClassFile.FieldType.int) Q) (hF : x.1.2.2.2.frames = 16 ∧ x.1.2.2.2.locals = 376) (hC : x.2.2.2.2.2 = (fun _ => false)) (hxt : (x.2.2.1.2.1.exceptionTable.toList = tableOf [(34, 54, 55, 60)])) : Snd x 55 (bX0_weigh_55 E Q) := by
  unfold bX0_weigh_55
  refine s_astore G.b (by rw [G.nl]; decide) (fun _ _ => by rw [hC]) dX0_weigh_55 ?_
  refine s_aload_n rfl G.b dX0_weigh_57 ?_
  refine s_aload G.b dX0_weigh_58 ?_
  refine s_callV G (mX0_refused EN) q588 q590 (sel_cons (r := (RX0, TX0, 10)) (by decide) rfl qs7 (sel_nil)) q76 q591 nmk_81 (rm_of hF (Nat.le_of_ble_eq_true rfl) (Nat.le_of_ble_eq_true rfl)) dX0_weigh_60 ?_ (sx_out G (by rw [hxt]; decide +kernel))
  exact s_ireturn G dX0_weigh_63
set_option maxHeartbeats 4000000 in
theorem tX0_weigh_25 {x : CX} {E : Nat → Value} {Q : Rs → HS → Prop} (EN : EX x E) (G : Gd x cX0_weigh "ChantRules" yX0_weigh 6 (Option.some Jvm.ClassFile.FieldType.int) Q) (hF : x.1.2.2.2.frames = 16 ∧ x.1.2.2.2.locals = 376) (hC : x.2.2.2.2.2 = (fun _ => false)) (hxt : (x.2.2.1.2.1.exceptionTable.toList = tableOf [(34, 54, 55, 60)])) : Snd x 25 (bX0_weigh_25 E Q) := by
  unfold bX0_weigh_25
  refine s_aload_n rfl G.b dX0_weigh_25 ?_
  refine s_getf G.b G.ow G.kn (G.hts _ q300) (fun _ h => h) fa_11 dX0_weigh_26 ?_
  refine s_callV G (mX1_copy EN) q342 q343 (sel_cons (r := (RX1, TX1, 4)) (by decide) rfl q344 (sel_nil)) q77 q345 nmk_82 (rm_of hF (Nat.le_of_ble_eq_true rfl) (Nat.le_of_ble_eq_true rfl)) dX0_weigh_29 ?_ (sx_out G (by rw [hxt]; decide +kernel))
  refine s_astore G.b (by rw [G.nl]; decide) (fun _ _ => by rw [hC]) dX0_weigh_32 ?_
  refine s_aload_n rfl G.b dX0_weigh_34 ?_
  refine s_aload G.b dX0_weigh_35 ?_
  refine s_aload_n rfl G.b dX0_weigh_37 ?_
  refine s_getf G.b G.ow G.kn (G.hts _ q300) (fun _ h => h) fa_11 dX0_weigh_38 ?_
  refine s_getfN G.b G.ow G.kn (va_Nw.use rfl (va_Nw.warmF G.warm (EN.nw q194 rfl))) (fun _ h => h) fa_5 dX0_weigh_41 ?_
  refine s_iload_n rfl G.b dX0_weigh_44 ?_
  refine s_aald G.b G.kn dX0_weigh_45 ?_
  refine s_iload_n rfl G.b dX0_weigh_46 ?_
  refine s_iload_n rfl G.b dX0_weigh_47 ?_
  refine s_callV G (mX3_weighs EN) q763 q764 (sel_cons (r := (RX3, TX3, 3)) (by decide) rfl q765 (sel_nil)) q79 q766 nmk_144 (rm_of hF (Nat.le_of_ble_eq_true rfl) (Nat.le_of_ble_eq_true rfl)) dX0_weigh_48 ?_ (sx_catch G [] (⟨34, 54, 55, 60⟩ : ExceptionTableEntry) [] (by rw [hxt]; rfl) (fun w hw => nomatch hw) (by decide +kernel) (by decide) q335 ct_5 (tX0_weigh_55 EN G hF hC hxt) sx_no)
  refine s_callV G (mX0_changed EN) q547 q549 (sel_cons (r := (RX0, TX0, 10)) (by decide) rfl qs4 (sel_nil)) q76 q550 nmk_85 (rm_of hF (Nat.le_of_ble_eq_true rfl) (Nat.le_of_ble_eq_true rfl)) dX0_weigh_51 ?_ (sx_catch G [] (⟨34, 54, 55, 60⟩ : ExceptionTableEntry) [] (by rw [hxt]; rfl) (fun w hw => nomatch hw) (by decide +kernel) (by decide) q335 ct_5 (tX0_weigh_55 EN G hF hC hxt) sx_no)
  exact s_ireturn G dX0_weigh_54
set_option maxHeartbeats 4000000 in
theorem tX0_weigh_15 {x : CX} {E : Nat → Value} {Q : Rs → HS → Prop} (EN : EX x E) (G : Gd x cX0_weigh "ChantRules" yX0_weigh 6 (Option.some Jvm.ClassFile.FieldType.int) Q) (hF : x.1.2.2.2.frames = 16 ∧ x.1.2.2.2.locals = 376) (hC : x.2.2.2.2.2 = (fun _ => false)) (hxt : (x.2.2.1.2.1.exceptionTable.toList = tableOf [(34, 54, 55, 60)])) : Snd x 15 (bX0_weigh_15 E Q) := by
  unfold bX0_weigh_15
  refine s_iload_n rfl G.b dX0_weigh_15 ?_
  refine s_callS G (mX0_isWeight EN) q612 q613 q76 q614 nmk_87 (rm_of hF (Nat.le_of_ble_eq_true rfl) (Nat.le_of_ble_eq_true rfl)) dX0_weigh_16 ?_ (sx_out G (by rw [hxt]; decide +kernel))
  refine s_ifne (tgt := 25) G.b dX0_weigh_19 (by decide) (tX0_weigh_25 EN G hF hC hxt) ?_
  refine s_bipush (by decide) G.b dX0_weigh_22 ?_
  exact s_ireturn G dX0_weigh_24
set_option maxHeartbeats 4000000 in
theorem tX0_weigh_0 {x : CX} {E : Nat → Value} {Q : Rs → HS → Prop} (EN : EX x E) (G : Gd x cX0_weigh "ChantRules" yX0_weigh 6 (Option.some Jvm.ClassFile.FieldType.int) Q) (hF : x.1.2.2.2.frames = 16 ∧ x.1.2.2.2.locals = 376) (hC : x.2.2.2.2.2 = (fun _ => false)) (hxt : (x.2.2.1.2.1.exceptionTable.toList = tableOf [(34, 54, 55, 60)])) : Snd x 0 (bX0_weigh_0 E Q) := by
  unfold bX0_weigh_0
  refine s_aload_n rfl G.b dX0_weigh_0 ?_
  refine s_getf G.b G.ow G.kn (G.hts _ q300) (fun _ h => h) fa_11 dX0_weigh_1 ?_
  refine s_iload_n rfl G.b dX0_weigh_4 ?_
  refine s_iload_n rfl G.b dX0_weigh_5 ?_
  refine s_callV G (mX1_isArc EN) q755 q756 (sel_cons (r := (RX1, TX1, 4)) (by decide) rfl q757 (sel_nil)) q77 q758 nmk_90 (rm_of hF (Nat.le_of_ble_eq_true rfl) (Nat.le_of_ble_eq_true rfl)) dX0_weigh_6 ?_ (sx_out G (by rw [hxt]; decide +kernel))
  refine s_ifne (tgt := 15) G.b dX0_weigh_9 (by decide) (tX0_weigh_15 EN G hF hC hxt) ?_
  refine s_bipush (by decide) G.b dX0_weigh_12 ?_
  exact s_ireturn G dX0_weigh_14
set_option maxHeartbeats 4000000 in
theorem mX0_weigh {l : Launch} {D : DE} {s0 : State} {E : Nat → Value} (EN : EV l D s0 E) : rMet l D s0 yX0_weigh (wsW_ yX0_weigh cX0_weigh 6 (Option.some Jvm.ClassFile.FieldType.int) [(34, 54, 55, 60)]) 16 376 (wX0_weigh E) := by
  refine body_metW (fun _ => false) EN.kn (fun w h => h) (by decide +kernel) rfl (fun av h Q hw => ?_) ?_
  · unfold wX0_weigh at hw
    split at hw
    · exact Nat.le_of_ble_eq_true rfl
    · exact hw.elim
  · intro p e s m below meth c av h Q hxt G hw
    unfold wX0_weigh at hw
    split at hw
    · exact tX0_weigh_0 EN G ⟨rfl, rfl⟩ rfl hxt _ _ _ hw
    · exact hw.elim
/-! ChantRulesModel.<init>()V (X5_init) -/
theorem fa_73 : fieldAt [8] 7 "ChantRulesModel" "v" "[I" := fa_cons (r := (RX5, TX5, 37)) rfl (by decide) rfl rfl rfl (fa_nil)
theorem fa_74 : fieldAt [8] 19 "ChantRulesModel" "reached" "[I" := fa_cons (r := (RX5, TX5, 37)) rfl (by decide) rfl rfl rfl (fa_nil)
theorem fa_75 : fieldAt [8] 20 "ChantRulesModel" "useful" "[I" := fa_cons (r := (RX5, TX5, 37)) rfl (by decide) rfl rfl rfl (fa_nil)
theorem fa_76 : fieldAt [8] 21 "ChantRulesModel" "text" "[I" := fa_cons (r := (RX5, TX5, 37)) rfl (by decide) rfl rfl rfl (fa_nil)
theorem fa_77 : fieldAt [8] 22 "ChantRulesModel" "least" "[I" := fa_cons (r := (RX5, TX5, 37)) rfl (by decide) rfl rfl rfl (fa_nil)
theorem fa_78 : fieldAt [8] 23 "ChantRulesModel" "letters" "[I" := fa_cons (r := (RX5, TX5, 37)) rfl (by decide) rfl rfl rfl (fa_nil)
theorem fa_79 : fieldAt [8] 24 "ChantRulesModel" "isDone" "[I" := fa_cons (r := (RX5, TX5, 37)) rfl (by decide) rfl rfl rfl (fa_nil)
theorem fa_80 : fieldAt [8] 25 "ChantRulesModel" "song" "[I" := fa_cons (r := (RX5, TX5, 37)) rfl (by decide) rfl rfl rfl (fa_nil)
theorem fa_81 : fieldAt [8] 29 "ChantRulesModel" "line" "[I" := fa_cons (r := (RX5, TX5, 37)) rfl (by decide) rfl rfl rfl (fa_nil)
theorem fa_82 : fieldAt [8] 31 "ChantRulesModel" "far" "[I" := fa_cons (r := (RX5, TX5, 37)) rfl (by decide) rfl rfl rfl (fa_nil)
theorem fa_83 : fieldAt [8] 32 "ChantRulesModel" "told" "[I" := fa_cons (r := (RX5, TX5, 37)) rfl (by decide) rfl rfl rfl (fa_nil)
theorem fa_84 : fieldAt [8] 8 "ChantRulesModel" "before" "[I" := fa_cons (r := (RX5, TX5, 37)) rfl (by decide) rfl rfl rfl (fa_nil)
theorem fa_85 : fieldAt [8] 9 "ChantRulesModel" "saved" "[I" := fa_cons (r := (RX5, TX5, 37)) rfl (by decide) rfl rfl rfl (fa_nil)
theorem fa_86 : fieldAt [8] 10 "ChantRulesModel" "past" "[I" := fa_cons (r := (RX5, TX5, 37)) rfl (by decide) rfl rfl rfl (fa_nil)
theorem fa_87 : fieldAt [8] 11 "ChantRulesModel" "from" "[I" := fa_cons (r := (RX5, TX5, 37)) rfl (by decide) rfl rfl rfl (fa_nil)
theorem fa_88 : fieldAt [8] 12 "ChantRulesModel" "to" "[I" := fa_cons (r := (RX5, TX5, 37)) rfl (by decide) rfl rfl rfl (fa_nil)
theorem fa_89 : fieldAt [8] 13 "ChantRulesModel" "hears" "[I" := fa_cons (r := (RX5, TX5, 37)) rfl (by decide) rfl rfl rfl (fa_nil)
theorem fa_90 : fieldAt [8] 14 "ChantRulesModel" "sings" "[I" := fa_cons (r := (RX5, TX5, 37)) rfl (by decide) rfl rfl rfl (fa_nil)
theorem fa_91 : fieldAt [8] 15 "ChantRulesModel" "weight" "[I" := fa_cons (r := (RX5, TX5, 37)) rfl (by decide) rfl rfl rfl (fa_nil)
theorem fa_92 : fieldAt [8] 16 "ChantRulesModel" "endOf" "[I" := fa_cons (r := (RX5, TX5, 37)) rfl (by decide) rfl rfl rfl (fa_nil)
def bX5_init_214 (E : Nat → Value) (Q : Rs → HS → Prop) (X193 : Ct) : Ct :=
  o_return Q
def bX5_init_193 (E : Nat → Value) (Q : Rs → HS → Prop) (X193 : Ct) : Ct :=
  o_iload 1 <|
  o_push (.int 10) <|
  o_icmpge (bX5_init_214 E Q X193) <|
  o_aload 0 <|
  o_getf [8] 7 <|
  o_push (.int 4) <|
  o_iload 1 <|
  o_iadd <|
  o_push (.int (-1)) <|
  o_ast [(100, .int)] <|
  o_iinc 1 1 <|
  X193
def bX5_init_189 (E : Nat → Value) (Q : Rs → HS → Prop) (X193 : Ct) : Ct :=
  o_push (.int 1) <|
  o_ast [(100, .int)] <|
  o_push (.int 0) <|
  o_istore 1 <|
  X193
def bX5_init_98 (E : Nat → Value) (Q : Rs → HS → Prop) (X193 : Ct) : Ct :=
  o_putf [8] 19 (.array .int) <|
  o_aload 0 <|
  o_push (.int 25) <|
  o_newa 100 (.int 0) <|
  o_putf [8] 20 (.array .int) <|
  o_aload 0 <|
  o_push (.int 60) <|
  o_newa 100 (.int 0) <|
  o_putf [8] 21 (.array .int) <|
  o_aload 0 <|
  o_push (.int 225) <|
  o_newa 100 (.int 0) <|
  o_putf [8] 22 (.array .int) <|
  o_aload 0 <|
  o_push (.int 225) <|
  o_newa 100 (.int 0) <|
  o_putf [8] 23 (.array .int) <|
  o_aload 0 <|
  o_push (.int 225) <|
  o_newa 100 (.int 0) <|
  o_putf [8] 24 (.array .int) <|
  o_aload 0 <|
  o_push (.int 51750) <|
  o_newa 100 (.int 0) <|
  o_putf [8] 25 (.array .int) <|
  o_aload 0 <|
  o_push (.int 300) <|
  o_newa 100 (.int 0) <|
  o_putf [8] 29 (.array .int) <|
  o_aload 0 <|
  o_push (.int 25) <|
  o_newa 100 (.int 0) <|
  o_putf [8] 31 (.array .int) <|
  o_aload 0 <|
  o_push (.int 6) <|
  o_newa 100 (.int 0) <|
  o_putf [8] 32 (.array .int) <|
  o_aload 0 <|
  o_getf [8] 7 <|
  o_push (.int 0) <|
  o_push (.int 1) <|
  o_ast [(100, .int)] <|
  o_aload 0 <|
  o_getf [8] 7 <|
  o_push (.int 1) <|
  (bX5_init_189 E Q X193)
def bX5_init_0 (E : Nat → Value) (Q : Rs → HS → Prop) (X193 : Ct) : Ct :=
  o_aload 0 <|
  o_objInit <|
  o_aload 0 <|
  o_push (.int 137) <|
  o_newa 100 (.int 0) <|
  o_putf [8] 7 (.array .int) <|
  o_aload 0 <|
  o_push (.int 137) <|
  o_newa 100 (.int 0) <|
  o_putf [8] 8 (.array .int) <|
  o_aload 0 <|
  o_push (.int 137) <|
  o_newa 100 (.int 0) <|
  o_putf [8] 9 (.array .int) <|
  o_aload 0 <|
  o_push (.int 1096) <|
  o_newa 100 (.int 0) <|
  o_putf [8] 10 (.array .int) <|
  o_aload 0 <|
  o_push (.int 300) <|
  o_newa 100 (.int 0) <|
  o_putf [8] 11 (.array .int) <|
  o_aload 0 <|
  o_push (.int 300) <|
  o_newa 100 (.int 0) <|
  o_putf [8] 12 (.array .int) <|
  o_aload 0 <|
  o_push (.int 300) <|
  o_newa 100 (.int 0) <|
  o_putf [8] 13 (.array .int) <|
  o_aload 0 <|
  o_push (.int 300) <|
  o_newa 100 (.int 0) <|
  o_putf [8] 14 (.array .int) <|
  o_aload 0 <|
  o_push (.int 300) <|
  o_newa 100 (.int 0) <|
  o_putf [8] 15 (.array .int) <|
  o_aload 0 <|
  o_push (.int 25) <|
  o_newa 100 (.int 0) <|
  o_putf [8] 16 (.array .int) <|
  o_aload 0 <|
  o_push (.int 25) <|
  o_newa 100 (.int 0) <|
  (bX5_init_98 E Q X193)
def wX5_init (E : Nat → Value) : Wp := fun av h Q => match av with
  | [a0] => ∀ X193 : Ct, (∀ ls st h, bX5_init_193 E Q X193 ls st h → X193 ls st h) → bX5_init_0 E Q X193 [a0, jk] [] h
  | _ => False
set_option maxHeartbeats 4000000 in
theorem tX5_init_214 {x : CX} {E : Nat → Value} {Q : Rs → HS → Prop} {X193 : Ct} (EN : EX x E) (G : Gd x cX5_init "ChantRulesModel" yX5_init 2 (Option.none : Option Jvm.ClassFile.FieldType) Q) (hF : x.1.2.2.2.frames = 2 ∧ x.1.2.2.2.locals = 64) (hC : x.2.2.2.2.2 = (fun _ => false)) (hxt : (∀ z ∈ x.2.2.1.2.1.exceptionTable.toList, False)) (h193 : Snd x 193 X193) : Snd x 214 (bX5_init_214 E Q X193) := by
  unfold bX5_init_214
  exact s_return G dX5_init_214
set_option maxHeartbeats 4000000 in
theorem tX5_init_193 {x : CX} {E : Nat → Value} {Q : Rs → HS → Prop} {X193 : Ct} (EN : EX x E) (G : Gd x cX5_init "ChantRulesModel" yX5_init 2 (Option.none : Option Jvm.ClassFile.FieldType) Q) (hF : x.1.2.2.2.frames = 2 ∧ x.1.2.2.2.locals = 64) (hC : x.2.2.2.2.2 = (fun _ => false)) (hxt : (∀ z ∈ x.2.2.1.2.1.exceptionTable.toList, False)) (h193 : Snd x 193 X193) : Snd x 193 (bX5_init_193 E Q X193) := by
  unfold bX5_init_193
  refine s_iload_n rfl G.b dX5_init_193 ?_
  refine s_bipush (by decide) G.b dX5_init_194 ?_
  refine s_icmpge (tgt := 214) G.b dX5_init_196 (by decide) (tX5_init_214 EN G hF hC hxt h193) ?_
  refine s_aload_n rfl G.b dX5_init_199 ?_
  refine s_getf G.b G.ow G.kn (G.hts _ q1910) (fun _ h => h) fa_73 dX5_init_200 ?_
  refine s_iconst (by decide) G.b dX5_init_203 ?_
  refine s_iload_n rfl G.b dX5_init_204 ?_
  refine s_iadd G.b dX5_init_205 ?_
  refine s_iconst (by decide) G.b dX5_init_206 ?_
  refine s_iast G.b G.kn dX5_init_207 ?_
  refine s_iinc (by decide) G.b (by rw [G.nl]; decide) (fun _ _ => by rw [hC]) dX5_init_208 ?_
  exact s_goto (tgt := 193) G.b dX5_init_211 (by decide) h193
set_option maxHeartbeats 4000000 in
theorem tX5_init_189 {x : CX} {E : Nat → Value} {Q : Rs → HS → Prop} {X193 : Ct} (EN : EX x E) (G : Gd x cX5_init "ChantRulesModel" yX5_init 2 (Option.none : Option Jvm.ClassFile.FieldType) Q) (hF : x.1.2.2.2.frames = 2 ∧ x.1.2.2.2.locals = 64) (hC : x.2.2.2.2.2 = (fun _ => false)) (hxt : (∀ z ∈ x.2.2.1.2.1.exceptionTable.toList, False)) (h193 : Snd x 193 X193) : Snd x 189 (bX5_init_189 E Q X193) := by
  unfold bX5_init_189
  refine s_iconst (by decide) G.b dX5_init_189 ?_
  refine s_iast G.b G.kn dX5_init_190 ?_
  refine s_iconst (by decide) G.b dX5_init_191 ?_
  refine s_istore_n rfl G.b (by rw [G.nl]; decide) (fun _ _ => by rw [hC]) dX5_init_192 ?_
  exact h193
set_option maxHeartbeats 4000000 in
theorem tX5_init_98 {x : CX} {E : Nat → Value} {Q : Rs → HS → Prop} {X193 : Ct} (EN : EX x E) (G : Gd x cX5_init "ChantRulesModel" yX5_init 2 (Option.none : Option Jvm.ClassFile.FieldType) Q) (hF : x.1.2.2.2.frames = 2 ∧ x.1.2.2.2.locals = 64) (hC : x.2.2.2.2.2 = (fun _ => false)) (hxt : (∀ z ∈ x.2.2.1.2.1.exceptionTable.toList, False)) (h193 : Snd x 193 X193) : Snd x 98 (bX5_init_98 E Q X193) := by
  unfold bX5_init_98
  refine s_putfF (r0 := (RX5, TX5, 37)) G.b G.ow G.kn (G.hts _ q1922) (by rw [G.name]; rfl) rfl (by decide) (by decide) rfl (G.hts _ q1978) (by decide +kernel) dX5_init_98 ?_
  refine s_aload_n rfl G.b dX5_init_101 ?_
  refine s_bipush (by decide) G.b dX5_init_102 ?_
  refine s_newa (atype := .int) G.b G.kn G.gr G.hts q191 (by decide) (by decide) rfl (fun _ h => by cases h) (by decide) rfl dX5_init_104 ?_
  refine s_putfF (r0 := (RX5, TX5, 37)) G.b G.ow G.kn (G.hts _ q1923) (by rw [G.name]; rfl) rfl (by decide) (by decide) rfl (G.hts _ q1980) (by decide +kernel) dX5_init_106 ?_
  refine s_aload_n rfl G.b dX5_init_109 ?_
  refine s_bipush (by decide) G.b dX5_init_110 ?_
  refine s_newa (atype := .int) G.b G.kn G.gr G.hts q191 (by decide) (by decide) rfl (fun _ h => by cases h) (by decide) rfl dX5_init_112 ?_
  refine s_putfF (r0 := (RX5, TX5, 37)) G.b G.ow G.kn (G.hts _ q1924) (by rw [G.name]; rfl) rfl (by decide) (by decide) rfl (G.hts _ q1982) (by decide +kernel) dX5_init_114 ?_
  refine s_aload_n rfl G.b dX5_init_117 ?_
  refine s_sipush (by decide) G.b dX5_init_118 ?_
  refine s_newa (atype := .int) G.b G.kn G.gr G.hts q191 (by decide) (by decide) rfl (fun _ h => by cases h) (by decide) rfl dX5_init_121 ?_
  refine s_putfF (r0 := (RX5, TX5, 37)) G.b G.ow G.kn (G.hts _ q1925) (by rw [G.name]; rfl) rfl (by decide) (by decide) rfl (G.hts _ q1984) (by decide +kernel) dX5_init_123 ?_
  refine s_aload_n rfl G.b dX5_init_126 ?_
  refine s_sipush (by decide) G.b dX5_init_127 ?_
  refine s_newa (atype := .int) G.b G.kn G.gr G.hts q191 (by decide) (by decide) rfl (fun _ h => by cases h) (by decide) rfl dX5_init_130 ?_
  refine s_putfF (r0 := (RX5, TX5, 37)) G.b G.ow G.kn (G.hts _ q1926) (by rw [G.name]; rfl) rfl (by decide) (by decide) rfl (G.hts _ q1986) (by decide +kernel) dX5_init_132 ?_
  refine s_aload_n rfl G.b dX5_init_135 ?_
  refine s_sipush (by decide) G.b dX5_init_136 ?_
  refine s_newa (atype := .int) G.b G.kn G.gr G.hts q191 (by decide) (by decide) rfl (fun _ h => by cases h) (by decide) rfl dX5_init_139 ?_
  refine s_putfF (r0 := (RX5, TX5, 37)) G.b G.ow G.kn (G.hts _ q1927) (by rw [G.name]; rfl) rfl (by decide) (by decide) rfl (G.hts _ q1988) (by decide +kernel) dX5_init_141 ?_
  refine s_aload_n rfl G.b dX5_init_144 ?_
  refine s_ldcI G.b G.ow G.hts q1902 dX5_init_145 ?_
  refine s_newa (atype := .int) G.b G.kn G.gr G.hts q191 (by decide) (by decide) rfl (fun _ h => by cases h) (by decide) rfl dX5_init_147 ?_
  refine s_putfF (r0 := (RX5, TX5, 37)) G.b G.ow G.kn (G.hts _ q1928) (by rw [G.name]; rfl) rfl (by decide) (by decide) rfl (G.hts _ q1990) (by decide +kernel) dX5_init_149 ?_
  refine s_aload_n rfl G.b dX5_init_152 ?_
  refine s_sipush (by decide) G.b dX5_init_153 ?_
  refine s_newa (atype := .int) G.b G.kn G.gr G.hts q191 (by decide) (by decide) rfl (fun _ h => by cases h) (by decide) rfl dX5_init_156 ?_
  refine s_putfF (r0 := (RX5, TX5, 37)) G.b G.ow G.kn (G.hts _ q1932) (by rw [G.name]; rfl) rfl (by decide) (by decide) rfl (G.hts _ q1998) (by decide +kernel) dX5_init_158 ?_
  refine s_aload_n rfl G.b dX5_init_161 ?_
  refine s_bipush (by decide) G.b dX5_init_162 ?_
  refine s_newa (atype := .int) G.b G.kn G.gr G.hts q191 (by decide) (by decide) rfl (fun _ h => by cases h) (by decide) rfl dX5_init_164 ?_
  refine s_putfF (r0 := (RX5, TX5, 37)) G.b G.ow G.kn (G.hts _ q1934) (by rw [G.name]; rfl) rfl (by decide) (by decide) rfl (G.hts _ q2002) (by decide +kernel) dX5_init_166 ?_
  refine s_aload_n rfl G.b dX5_init_169 ?_
  refine s_bipush (by decide) G.b dX5_init_170 ?_
  refine s_newa (atype := .int) G.b G.kn G.gr G.hts q191 (by decide) (by decide) rfl (fun _ h => by cases h) (by decide) rfl dX5_init_172 ?_
  refine s_putfF (r0 := (RX5, TX5, 37)) G.b G.ow G.kn (G.hts _ q1935) (by rw [G.name]; rfl) rfl (by decide) (by decide) rfl (G.hts _ q2004) (by decide +kernel) dX5_init_174 ?_
  refine s_aload_n rfl G.b dX5_init_177 ?_
  refine s_getf G.b G.ow G.kn (G.hts _ q1910) (fun _ h => h) fa_73 dX5_init_178 ?_
  refine s_iconst (by decide) G.b dX5_init_181 ?_
  refine s_iconst (by decide) G.b dX5_init_182 ?_
  refine s_iast G.b G.kn dX5_init_183 ?_
  refine s_aload_n rfl G.b dX5_init_184 ?_
  refine s_getf G.b G.ow G.kn (G.hts _ q1910) (fun _ h => h) fa_73 dX5_init_185 ?_
  refine s_iconst (by decide) G.b dX5_init_188 ?_
  exact (tX5_init_189 EN G hF hC hxt h193)
set_option maxHeartbeats 4000000 in
theorem tX5_init_0 {x : CX} {E : Nat → Value} {Q : Rs → HS → Prop} {X193 : Ct} (EN : EX x E) (G : Gd x cX5_init "ChantRulesModel" yX5_init 2 (Option.none : Option Jvm.ClassFile.FieldType) Q) (hF : x.1.2.2.2.frames = 2 ∧ x.1.2.2.2.locals = 64) (hC : x.2.2.2.2.2 = (fun _ => false)) (hxt : (∀ z ∈ x.2.2.1.2.1.exceptionTable.toList, False)) (h193 : Snd x 193 X193) : Snd x 0 (bX5_init_0 E Q X193) := by
  unfold bX5_init_0
  refine s_aload_n rfl G.b dX5_init_0 ?_
  refine s_objInit G.b G.ow G.hts q1901 q122 q123 G.ml (by rw [hF.1]; decide) (by rw [hF.2]; decide) dX5_init_1 ?_
  refine s_aload_n rfl G.b dX5_init_4 ?_
  refine s_sipush (by decide) G.b dX5_init_5 ?_
  refine s_newa (atype := .int) G.b G.kn G.gr G.hts q191 (by decide) (by decide) rfl (fun _ h => by cases h) (by decide) rfl dX5_init_8 ?_
  refine s_putfF (r0 := (RX5, TX5, 37)) G.b G.ow G.kn (G.hts _ q1910) (by rw [G.name]; rfl) rfl (by decide) (by decide) rfl (G.hts _ q1954) (by decide +kernel) dX5_init_10 ?_
  refine s_aload_n rfl G.b dX5_init_13 ?_
  refine s_sipush (by decide) G.b dX5_init_14 ?_
  refine s_newa (atype := .int) G.b G.kn G.gr G.hts q191 (by decide) (by decide) rfl (fun _ h => by cases h) (by decide) rfl dX5_init_17 ?_
  refine s_putfF (r0 := (RX5, TX5, 37)) G.b G.ow G.kn (G.hts _ q1911) (by rw [G.name]; rfl) rfl (by decide) (by decide) rfl (G.hts _ q1956) (by decide +kernel) dX5_init_19 ?_
  refine s_aload_n rfl G.b dX5_init_22 ?_
  refine s_sipush (by decide) G.b dX5_init_23 ?_
  refine s_newa (atype := .int) G.b G.kn G.gr G.hts q191 (by decide) (by decide) rfl (fun _ h => by cases h) (by decide) rfl dX5_init_26 ?_
  refine s_putfF (r0 := (RX5, TX5, 37)) G.b G.ow G.kn (G.hts _ q1912) (by rw [G.name]; rfl) rfl (by decide) (by decide) rfl (G.hts _ q1958) (by decide +kernel) dX5_init_28 ?_
  refine s_aload_n rfl G.b dX5_init_31 ?_
  refine s_sipush (by decide) G.b dX5_init_32 ?_
  refine s_newa (atype := .int) G.b G.kn G.gr G.hts q191 (by decide) (by decide) rfl (fun _ h => by cases h) (by decide) rfl dX5_init_35 ?_
  refine s_putfF (r0 := (RX5, TX5, 37)) G.b G.ow G.kn (G.hts _ q1913) (by rw [G.name]; rfl) rfl (by decide) (by decide) rfl (G.hts _ q1960) (by decide +kernel) dX5_init_37 ?_
  refine s_aload_n rfl G.b dX5_init_40 ?_
  refine s_sipush (by decide) G.b dX5_init_41 ?_
  refine s_newa (atype := .int) G.b G.kn G.gr G.hts q191 (by decide) (by decide) rfl (fun _ h => by cases h) (by decide) rfl dX5_init_44 ?_
  refine s_putfF (r0 := (RX5, TX5, 37)) G.b G.ow G.kn (G.hts _ q1914) (by rw [G.name]; rfl) rfl (by decide) (by decide) rfl (G.hts _ q1962) (by decide +kernel) dX5_init_46 ?_
  refine s_aload_n rfl G.b dX5_init_49 ?_
  refine s_sipush (by decide) G.b dX5_init_50 ?_
  refine s_newa (atype := .int) G.b G.kn G.gr G.hts q191 (by decide) (by decide) rfl (fun _ h => by cases h) (by decide) rfl dX5_init_53 ?_
  refine s_putfF (r0 := (RX5, TX5, 37)) G.b G.ow G.kn (G.hts _ q1915) (by rw [G.name]; rfl) rfl (by decide) (by decide) rfl (G.hts _ q1964) (by decide +kernel) dX5_init_55 ?_
  refine s_aload_n rfl G.b dX5_init_58 ?_
  refine s_sipush (by decide) G.b dX5_init_59 ?_
  refine s_newa (atype := .int) G.b G.kn G.gr G.hts q191 (by decide) (by decide) rfl (fun _ h => by cases h) (by decide) rfl dX5_init_62 ?_
  refine s_putfF (r0 := (RX5, TX5, 37)) G.b G.ow G.kn (G.hts _ q1916) (by rw [G.name]; rfl) rfl (by decide) (by decide) rfl (G.hts _ q1966) (by decide +kernel) dX5_init_64 ?_
  refine s_aload_n rfl G.b dX5_init_67 ?_
  refine s_sipush (by decide) G.b dX5_init_68 ?_
  refine s_newa (atype := .int) G.b G.kn G.gr G.hts q191 (by decide) (by decide) rfl (fun _ h => by cases h) (by decide) rfl dX5_init_71 ?_
  refine s_putfF (r0 := (RX5, TX5, 37)) G.b G.ow G.kn (G.hts _ q1917) (by rw [G.name]; rfl) rfl (by decide) (by decide) rfl (G.hts _ q1968) (by decide +kernel) dX5_init_73 ?_
  refine s_aload_n rfl G.b dX5_init_76 ?_
  refine s_sipush (by decide) G.b dX5_init_77 ?_
  refine s_newa (atype := .int) G.b G.kn G.gr G.hts q191 (by decide) (by decide) rfl (fun _ h => by cases h) (by decide) rfl dX5_init_80 ?_
  refine s_putfF (r0 := (RX5, TX5, 37)) G.b G.ow G.kn (G.hts _ q1918) (by rw [G.name]; rfl) rfl (by decide) (by decide) rfl (G.hts _ q1970) (by decide +kernel) dX5_init_82 ?_
  refine s_aload_n rfl G.b dX5_init_85 ?_
  refine s_bipush (by decide) G.b dX5_init_86 ?_
  refine s_newa (atype := .int) G.b G.kn G.gr G.hts q191 (by decide) (by decide) rfl (fun _ h => by cases h) (by decide) rfl dX5_init_88 ?_
  refine s_putfF (r0 := (RX5, TX5, 37)) G.b G.ow G.kn (G.hts _ q1919) (by rw [G.name]; rfl) rfl (by decide) (by decide) rfl (G.hts _ q1972) (by decide +kernel) dX5_init_90 ?_
  refine s_aload_n rfl G.b dX5_init_93 ?_
  refine s_bipush (by decide) G.b dX5_init_94 ?_
  refine s_newa (atype := .int) G.b G.kn G.gr G.hts q191 (by decide) (by decide) rfl (fun _ h => by cases h) (by decide) rfl dX5_init_96 ?_
  exact (tX5_init_98 EN G hF hC hxt h193)
set_option maxHeartbeats 4000000 in
theorem mX5_init {l : Launch} {D : DE} {s0 : State} {E : Nat → Value} (EN : EV l D s0 E) : rMet l D s0 yX5_init (ws_ yX5_init cX5_init 2 (Option.none : Option Jvm.ClassFile.FieldType)) 2 64 (wX5_init E) := by
  refine body_met (fun _ => false) EN.kn (fun w h => h) (by decide +kernel) rfl (fun av h Q hw => ?_) ?_
  · unfold wX5_init at hw
    split at hw
    · exact Nat.le_of_ble_eq_true rfl
    · exact hw.elim
  · intro p e s m below meth c av h Q hxt G hw
    unfold wX5_init at hw
    split at hw
    · exact tX5_init_0 EN G ⟨rfl, rfl⟩ rfl hxt (fun _ _ _ h => h) _ _ _ (hw (AW _ 193) (tX5_init_193 EN G ⟨rfl, rfl⟩ rfl hxt (fun _ _ _ h => h)))
    · exact hw.elim
/-! ChantRulesModel.endAt(II)I (X5_endAt) -/
def bX5_endAt_0 (E : Nat → Value) (Q : Rs → HS → Prop) : Ct :=
  o_push (.int 4) <|
  o_push (.int 5) <|
  o_iload 0 <|
  o_imul <|
  o_iadd <|
  o_iload 1 <|
  o_iadd <|
  o_ireturn .int Q
def wX5_endAt (E : Nat → Value) : Wp := fun av h Q => match av with
  | [a0, a1] => bX5_endAt_0 E Q [a0, a1] [] h
  | _ => False
set_option maxHeartbeats 4000000 in
theorem tX5_endAt_0 {x : CX} {E : Nat → Value} {Q : Rs → HS → Prop} (EN : EX x E) (G : Gd x cX5_endAt "ChantRulesModel" yX5_endAt 2 (Option.some Jvm.ClassFile.FieldType.int) Q) (hF : x.1.2.2.2.frames = 2 ∧ x.1.2.2.2.locals = 64) (hC : x.2.2.2.2.2 = (fun _ => false)) (hxt : (∀ z ∈ x.2.2.1.2.1.exceptionTable.toList, False)) : Snd x 0 (bX5_endAt_0 E Q) := by
  unfold bX5_endAt_0
  refine s_iconst (by decide) G.b dX5_endAt_0 ?_
  refine s_iconst (by decide) G.b dX5_endAt_1 ?_
  refine s_iload_n rfl G.b dX5_endAt_2 ?_
  refine s_imul G.b dX5_endAt_3 ?_
  refine s_iadd G.b dX5_endAt_4 ?_
  refine s_iload_n rfl G.b dX5_endAt_5 ?_
  refine s_iadd G.b dX5_endAt_6 ?_
  exact s_ireturn G dX5_endAt_7
set_option maxHeartbeats 4000000 in
theorem mX5_endAt {l : Launch} {D : DE} {s0 : State} {E : Nat → Value} (EN : EV l D s0 E) : rMet l D s0 yX5_endAt (ws_ yX5_endAt cX5_endAt 2 (Option.some Jvm.ClassFile.FieldType.int)) 2 64 (wX5_endAt E) := by
  refine body_met (fun _ => false) EN.kn (fun w h => h) (by decide +kernel) rfl (fun av h Q hw => ?_) ?_
  · unfold wX5_endAt at hw
    split at hw
    · exact Nat.le_of_ble_eq_true rfl
    · exact hw.elim
  · intro p e s m below meth c av h Q hxt G hw
    unfold wX5_endAt at hw
    split at hw
    · exact tX5_endAt_0 EN G ⟨rfl, rfl⟩ rfl hxt _ _ _ hw
    · exact hw.elim
/-! ChantRulesModel.endsOf(I)I (X5_endsOf) -/
theorem nmk_247 : nm_ok yX5_endAt 2 := ⟨by decide +kernel, by decide +kernel, by decide +kernel⟩
def bX5_endsOf_43 (E : Nat → Value) (Q : Rs → HS → Prop) (X4 : Ct) : Ct :=
  o_iload 2 <|
  o_ireturn .int Q
def bX5_endsOf_35 (E : Nat → Value) (Q : Rs → HS → Prop) (X4 : Ct) : Ct :=
  o_iadd <|
  o_istore 2 <|
  o_iinc 3 1 <|
  X4
def bX5_endsOf_34 (E : Nat → Value) (Q : Rs → HS → Prop) (X4 : Ct) : Ct :=
  o_push (.int 1) <|
  (bX5_endsOf_35 E Q X4)
def bX5_endsOf_4 (E : Nat → Value) (Q : Rs → HS → Prop) (X4 : Ct) : Ct :=
  o_iload 3 <|
  o_aload 0 <|
  o_getf [8] 7 <|
  o_push (.int 0) <|
  o_iload 1 <|
  o_iadd <|
  o_ald [100] <|
  o_icmpge (bX5_endsOf_43 E Q X4) <|
  o_iload 2 <|
  o_aload 0 <|
  o_getf [8] 7 <|
  o_iload 1 <|
  o_iload 3 <|
  o_call 2 (wX5_endAt E) (x_out Q) <|
  o_ald [100] <|
  o_ifge (bX5_endsOf_34 E Q X4) <|
  o_push (.int 0) <|
  (bX5_endsOf_35 E Q X4)
def bX5_endsOf_0 (E : Nat → Value) (Q : Rs → HS → Prop) (X4 : Ct) : Ct :=
  o_push (.int 0) <|
  o_istore 2 <|
  o_push (.int 0) <|
  o_istore 3 <|
  X4
def wX5_endsOf (E : Nat → Value) : Wp := fun av h Q => match av with
  | [a0, a1] => ∀ X4 : Ct, (∀ ls st h, bX5_endsOf_4 E Q X4 ls st h → X4 ls st h) → bX5_endsOf_0 E Q X4 [a0, a1, jk, jk] [] h
  | _ => False
set_option maxHeartbeats 4000000 in
theorem tX5_endsOf_43 {x : CX} {E : Nat → Value} {Q : Rs → HS → Prop} {X4 : Ct} (EN : EX x E) (G : Gd x cX5_endsOf "ChantRulesModel" yX5_endsOf 4 (Option.some Jvm.ClassFile.FieldType.int) Q) (hF : x.1.2.2.2.frames = 3 ∧ x.1.2.2.2.locals = 85) (hC : x.2.2.2.2.2 = (fun _ => false)) (hxt : (∀ z ∈ x.2.2.1.2.1.exceptionTable.toList, False)) (h4 : Snd x 4 X4) : Snd x 43 (bX5_endsOf_43 E Q X4) := by
  unfold bX5_endsOf_43
  refine s_iload_n rfl G.b dX5_endsOf_43 ?_
  exact s_ireturn G dX5_endsOf_44
set_option maxHeartbeats 4000000 in
theorem tX5_endsOf_35 {x : CX} {E : Nat → Value} {Q : Rs → HS → Prop} {X4 : Ct} (EN : EX x E) (G : Gd x cX5_endsOf "ChantRulesModel" yX5_endsOf 4 (Option.some Jvm.ClassFile.FieldType.int) Q) (hF : x.1.2.2.2.frames = 3 ∧ x.1.2.2.2.locals = 85) (hC : x.2.2.2.2.2 = (fun _ => false)) (hxt : (∀ z ∈ x.2.2.1.2.1.exceptionTable.toList, False)) (h4 : Snd x 4 X4) : Snd x 35 (bX5_endsOf_35 E Q X4) := by
  unfold bX5_endsOf_35
  refine s_iadd G.b dX5_endsOf_35 ?_
  refine s_istore_n rfl G.b (by rw [G.nl]; decide) (fun _ _ => by rw [hC]) dX5_endsOf_36 ?_
  refine s_iinc (by decide) G.b (by rw [G.nl]; decide) (fun _ _ => by rw [hC]) dX5_endsOf_37 ?_
  exact s_goto (tgt := 4) G.b dX5_endsOf_40 (by decide) h4
set_option maxHeartbeats 4000000 in
theorem tX5_endsOf_34 {x : CX} {E : Nat → Value} {Q : Rs → HS → Prop} {X4 : Ct} (EN : EX x E) (G : Gd x cX5_endsOf "ChantRulesModel" yX5_endsOf 4 (Option.some Jvm.ClassFile.FieldType.int) Q) (hF : x.1.2.2.2.frames = 3 ∧ x.1.2.2.2.locals = 85) (hC : x.2.2.2.2.2 = (fun _ => false)) (hxt : (∀ z ∈ x.2.2.1.2.1.exceptionTable.toList, False)) (h4 : Snd x 4 X4) : Snd x 34 (bX5_endsOf_34 E Q X4) := by
  unfold bX5_endsOf_34
  refine s_iconst (by decide) G.b dX5_endsOf_34 ?_
  exact (tX5_endsOf_35 EN G hF hC hxt h4)
set_option maxHeartbeats 4000000 in
theorem tX5_endsOf_4 {x : CX} {E : Nat → Value} {Q : Rs → HS → Prop} {X4 : Ct} (EN : EX x E) (G : Gd x cX5_endsOf "ChantRulesModel" yX5_endsOf 4 (Option.some Jvm.ClassFile.FieldType.int) Q) (hF : x.1.2.2.2.frames = 3 ∧ x.1.2.2.2.locals = 85) (hC : x.2.2.2.2.2 = (fun _ => false)) (hxt : (∀ z ∈ x.2.2.1.2.1.exceptionTable.toList, False)) (h4 : Snd x 4 X4) : Snd x 4 (bX5_endsOf_4 E Q X4) := by
  unfold bX5_endsOf_4
  refine s_iload_n rfl G.b dX5_endsOf_4 ?_
  refine s_aload_n rfl G.b dX5_endsOf_5 ?_
  refine s_getf G.b G.ow G.kn (G.hts _ q1910) (fun _ h => h) fa_73 dX5_endsOf_6 ?_
  refine s_iconst (by decide) G.b dX5_endsOf_9 ?_
  refine s_iload_n rfl G.b dX5_endsOf_10 ?_
  refine s_iadd G.b dX5_endsOf_11 ?_
  refine s_iald G.b G.kn dX5_endsOf_12 ?_
  refine s_icmpge (tgt := 43) G.b dX5_endsOf_13 (by decide) (tX5_endsOf_43 EN G hF hC hxt h4) ?_
  refine s_iload_n rfl G.b dX5_endsOf_16 ?_
  refine s_aload_n rfl G.b dX5_endsOf_17 ?_
  refine s_getf G.b G.ow G.kn (G.hts _ q1910) (fun _ h => h) fa_73 dX5_endsOf_18 ?_
  refine s_iload_n rfl G.b dX5_endsOf_21 ?_
  refine s_iload_n rfl G.b dX5_endsOf_22 ?_
  refine s_callS G (mX5_endAt EN) q2044 q2045 q90 q2046 nmk_247 (rm_of hF (Nat.le_of_ble_eq_true rfl) (Nat.le_of_ble_eq_true rfl)) dX5_endsOf_23 ?_ (sx_out G (fun z hz => (hxt z hz).elim))
  refine s_iald G.b G.kn dX5_endsOf_26 ?_
  refine s_ifge (tgt := 34) G.b dX5_endsOf_27 (by decide) (tX5_endsOf_34 EN G hF hC hxt h4) ?_
  refine s_iconst (by decide) G.b dX5_endsOf_30 ?_
  exact s_goto (tgt := 35) G.b dX5_endsOf_31 (by decide) (tX5_endsOf_35 EN G hF hC hxt h4)
set_option maxHeartbeats 4000000 in
theorem tX5_endsOf_0 {x : CX} {E : Nat → Value} {Q : Rs → HS → Prop} {X4 : Ct} (EN : EX x E) (G : Gd x cX5_endsOf "ChantRulesModel" yX5_endsOf 4 (Option.some Jvm.ClassFile.FieldType.int) Q) (hF : x.1.2.2.2.frames = 3 ∧ x.1.2.2.2.locals = 85) (hC : x.2.2.2.2.2 = (fun _ => false)) (hxt : (∀ z ∈ x.2.2.1.2.1.exceptionTable.toList, False)) (h4 : Snd x 4 X4) : Snd x 0 (bX5_endsOf_0 E Q X4) := by
  unfold bX5_endsOf_0
  refine s_iconst (by decide) G.b dX5_endsOf_0 ?_
  refine s_istore_n rfl G.b (by rw [G.nl]; decide) (fun _ _ => by rw [hC]) dX5_endsOf_1 ?_
  refine s_iconst (by decide) G.b dX5_endsOf_2 ?_
  refine s_istore_n rfl G.b (by rw [G.nl]; decide) (fun _ _ => by rw [hC]) dX5_endsOf_3 ?_
  exact h4
set_option maxHeartbeats 4000000 in
theorem mX5_endsOf {l : Launch} {D : DE} {s0 : State} {E : Nat → Value} (EN : EV l D s0 E) : rMet l D s0 yX5_endsOf (ws_ yX5_endsOf cX5_endsOf 4 (Option.some Jvm.ClassFile.FieldType.int)) 3 85 (wX5_endsOf E) := by
  refine body_met (fun _ => false) EN.kn (fun w h => h) (by decide +kernel) rfl (fun av h Q hw => ?_) ?_
  · unfold wX5_endsOf at hw
    split at hw
    · exact Nat.le_of_ble_eq_true rfl
    · exact hw.elim
  · intro p e s m below meth c av h Q hxt G hw
    unfold wX5_endsOf at hw
    split at hw
    · exact tX5_endsOf_0 EN G ⟨rfl, rfl⟩ rfl hxt (fun _ _ _ h => h) _ _ _ (hw (AW _ 4) (tX5_endsOf_4 EN G ⟨rfl, rfl⟩ rfl hxt (fun _ _ _ h => h)))
    · exact hw.elim
/-! ChantRulesModel.of(III)I (X5_of) -/
def bX5_of_0 (E : Nat → Value) (Q : Rs → HS → Prop) : Ct :=
  o_push (.int 17) <|
  o_push (.int 60) <|
  o_iload 0 <|
  o_imul <|
  o_iadd <|
  o_push (.int 5) <|
  o_iload 1 <|
  o_imul <|
  o_iadd <|
  o_iload 2 <|
  o_iadd <|
  o_ireturn .int Q
def wX5_of (E : Nat → Value) : Wp := fun av h Q => match av with
  | [a0, a1, a2] => bX5_of_0 E Q [a0, a1, a2] [] h
  | _ => False
set_option maxHeartbeats 4000000 in
theorem tX5_of_0 {x : CX} {E : Nat → Value} {Q : Rs → HS → Prop} (EN : EX x E) (G : Gd x cX5_of "ChantRulesModel" yX5_of 3 (Option.some Jvm.ClassFile.FieldType.int) Q) (hF : x.1.2.2.2.frames = 2 ∧ x.1.2.2.2.locals = 64) (hC : x.2.2.2.2.2 = (fun _ => false)) (hxt : (∀ z ∈ x.2.2.1.2.1.exceptionTable.toList, False)) : Snd x 0 (bX5_of_0 E Q) := by
  unfold bX5_of_0
  refine s_bipush (by decide) G.b dX5_of_0 ?_
  refine s_bipush (by decide) G.b dX5_of_2 ?_
  refine s_iload_n rfl G.b dX5_of_4 ?_
  refine s_imul G.b dX5_of_5 ?_
  refine s_iadd G.b dX5_of_6 ?_
  refine s_iconst (by decide) G.b dX5_of_7 ?_
  refine s_iload_n rfl G.b dX5_of_8 ?_
  refine s_imul G.b dX5_of_9 ?_
  refine s_iadd G.b dX5_of_10 ?_
  refine s_iload_n rfl G.b dX5_of_11 ?_
  refine s_iadd G.b dX5_of_12 ?_
  exact s_ireturn G dX5_of_13
set_option maxHeartbeats 4000000 in
theorem mX5_of {l : Launch} {D : DE} {s0 : State} {E : Nat → Value} (EN : EV l D s0 E) : rMet l D s0 yX5_of (ws_ yX5_of cX5_of 3 (Option.some Jvm.ClassFile.FieldType.int)) 2 64 (wX5_of E) := by
  refine body_met (fun _ => false) EN.kn (fun w h => h) (by decide +kernel) rfl (fun av h Q hw => ?_) ?_
  · unfold wX5_of at hw
    split at hw
    · exact Nat.le_of_ble_eq_true rfl
    · exact hw.elim
  · intro p e s m below meth c av h Q hxt G hw
    unfold wX5_of at hw
    split at hw
    · exact tX5_of_0 EN G ⟨rfl, rfl⟩ rfl hxt _ _ _ hw
    · exact hw.elim
/-! ChantRulesModel.ofArcs(I)I (X5_ofArcs) -/
theorem nmk_248 : nm_ok yX5_of 3 := ⟨by decide +kernel, by decide +kernel, by decide +kernel⟩
def bX5_ofArcs_80 (E : Nat → Value) (Q : Rs → HS → Prop) (X4 X12 : Ct) : Ct :=
  o_iload 2 <|
  o_ireturn .int Q
def bX5_ofArcs_74 (E : Nat → Value) (Q : Rs → HS → Prop) (X4 X12 : Ct) : Ct :=
  o_iinc 3 1 <|
  X4
def bX5_ofArcs_66 (E : Nat → Value) (Q : Rs → HS → Prop) (X4 X12 : Ct) : Ct :=
  o_iadd <|
  o_istore 2 <|
  o_iinc 4 1 <|
  X12
def bX5_ofArcs_65 (E : Nat → Value) (Q : Rs → HS → Prop) (X4 X12 : Ct) : Ct :=
  o_push (.int 0) <|
  (bX5_ofArcs_66 E Q X4 X12)
def bX5_ofArcs_45 (E : Nat → Value) (Q : Rs → HS → Prop) (X4 X12 : Ct) : Ct :=
  o_aload 0 <|
  o_getf [8] 7 <|
  o_iload 3 <|
  o_iload 4 <|
  o_push (.int 2) <|
  o_call 3 (wX5_of E) (x_out Q) <|
  o_ald [100] <|
  o_push (.int 4) <|
  o_icmpne (bX5_ofArcs_65 E Q X4 X12) <|
  o_push (.int 1) <|
  (bX5_ofArcs_66 E Q X4 X12)
def bX5_ofArcs_12 (E : Nat → Value) (Q : Rs → HS → Prop) (X4 X12 : Ct) : Ct :=
  o_iload 4 <|
  o_aload 0 <|
  o_getf [8] 7 <|
  o_push (.int 2) <|
  o_iload 3 <|
  o_iadd <|
  o_ald [100] <|
  o_icmpge (bX5_ofArcs_74 E Q X4 X12) <|
  o_iload 2 <|
  o_iload 1 <|
  o_ifne (bX5_ofArcs_45 E Q X4 X12) <|
  o_aload 0 <|
  o_getf [8] 7 <|
  o_iload 3 <|
  o_iload 4 <|
  o_push (.int 4) <|
  o_call 3 (wX5_of E) (x_out Q) <|
  o_ald [100] <|
  (bX5_ofArcs_66 E Q X4 X12)
def bX5_ofArcs_4 (E : Nat → Value) (Q : Rs → HS → Prop) (X4 X12 : Ct) : Ct :=
  o_iload 3 <|
  o_push (.int 2) <|
  o_icmpge (bX5_ofArcs_80 E Q X4 X12) <|
  o_push (.int 0) <|
  o_istore 4 <|
  X12
def bX5_ofArcs_0 (E : Nat → Value) (Q : Rs → HS → Prop) (X4 X12 : Ct) : Ct :=
  o_push (.int 0) <|
  o_istore 2 <|
  o_push (.int 0) <|
  o_istore 3 <|
  X4
def wX5_ofArcs (E : Nat → Value) : Wp := fun av h Q => match av with
  | [a0, a1] => ∀ X4 X12 : Ct, (∀ ls st h, bX5_ofArcs_4 E Q X4 X12 ls st h → X4 ls st h) → (∀ ls st h, bX5_ofArcs_12 E Q X4 X12 ls st h → X12 ls st h) → bX5_ofArcs_0 E Q X4 X12 [a0, a1, jk, jk, jk] [] h
  | _ => False
set_option maxHeartbeats 4000000 in
theorem tX5_ofArcs_80 {x : CX} {E : Nat → Value} {Q : Rs → HS → Prop} {X4 X12 : Ct} (EN : EX x E) (G : Gd x cX5_ofArcs "ChantRulesModel" yX5_ofArcs 5 (Option.some Jvm.ClassFile.FieldType.int) Q) (hF : x.1.2.2.2.frames = 3 ∧ x.1.2.2.2.locals = 86) (hC : x.2.2.2.2.2 = (fun _ => false)) (hxt : (∀ z ∈ x.2.2.1.2.1.exceptionTable.toList, False)) (h4 : Snd x 4 X4) (h12 : Snd x 12 X12) : Snd x 80 (bX5_ofArcs_80 E Q X4 X12) := by
  unfold bX5_ofArcs_80
  refine s_iload_n rfl G.b dX5_ofArcs_80 ?_
  exact s_ireturn G dX5_ofArcs_81
set_option maxHeartbeats 4000000 in
theorem tX5_ofArcs_74 {x : CX} {E : Nat → Value} {Q : Rs → HS → Prop} {X4 X12 : Ct} (EN : EX x E) (G : Gd x cX5_ofArcs "ChantRulesModel" yX5_ofArcs 5 (Option.some Jvm.ClassFile.FieldType.int) Q) (hF : x.1.2.2.2.frames = 3 ∧ x.1.2.2.2.locals = 86) (hC : x.2.2.2.2.2 = (fun _ => false)) (hxt : (∀ z ∈ x.2.2.1.2.1.exceptionTable.toList, False)) (h4 : Snd x 4 X4) (h12 : Snd x 12 X12) : Snd x 74 (bX5_ofArcs_74 E Q X4 X12) := by
  unfold bX5_ofArcs_74
  refine s_iinc (by decide) G.b (by rw [G.nl]; decide) (fun _ _ => by rw [hC]) dX5_ofArcs_74 ?_
  exact s_goto (tgt := 4) G.b dX5_ofArcs_77 (by decide) h4
set_option maxHeartbeats 4000000 in
theorem tX5_ofArcs_66 {x : CX} {E : Nat → Value} {Q : Rs → HS → Prop} {X4 X12 : Ct} (EN : EX x E) (G : Gd x cX5_ofArcs "ChantRulesModel" yX5_ofArcs 5 (Option.some Jvm.ClassFile.FieldType.int) Q) (hF : x.1.2.2.2.frames = 3 ∧ x.1.2.2.2.locals = 86) (hC : x.2.2.2.2.2 = (fun _ => false)) (hxt : (∀ z ∈ x.2.2.1.2.1.exceptionTable.toList, False)) (h4 : Snd x 4 X4) (h12 : Snd x 12 X12) : Snd x 66 (bX5_ofArcs_66 E Q X4 X12) := by
  unfold bX5_ofArcs_66
  refine s_iadd G.b dX5_ofArcs_66 ?_
  refine s_istore_n rfl G.b (by rw [G.nl]; decide) (fun _ _ => by rw [hC]) dX5_ofArcs_67 ?_
  refine s_iinc (by decide) G.b (by rw [G.nl]; decide) (fun _ _ => by rw [hC]) dX5_ofArcs_68 ?_
  exact s_goto (tgt := 12) G.b dX5_ofArcs_71 (by decide) h12
set_option maxHeartbeats 4000000 in
theorem tX5_ofArcs_65 {x : CX} {E : Nat → Value} {Q : Rs → HS → Prop} {X4 X12 : Ct} (EN : EX x E) (G : Gd x cX5_ofArcs "ChantRulesModel" yX5_ofArcs 5 (Option.some Jvm.ClassFile.FieldType.int) Q) (hF : x.1.2.2.2.frames = 3 ∧ x.1.2.2.2.locals = 86) (hC : x.2.2.2.2.2 = (fun _ => false)) (hxt : (∀ z ∈ x.2.2.1.2.1.exceptionTable.toList, False)) (h4 : Snd x 4 X4) (h12 : Snd x 12 X12) : Snd x 65 (bX5_ofArcs_65 E Q X4 X12) := by
  unfold bX5_ofArcs_65
  refine s_iconst (by decide) G.b dX5_ofArcs_65 ?_
  exact (tX5_ofArcs_66 EN G hF hC hxt h4 h12)
set_option maxHeartbeats 4000000 in
theorem tX5_ofArcs_45 {x : CX} {E : Nat → Value} {Q : Rs → HS → Prop} {X4 X12 : Ct} (EN : EX x E) (G : Gd x cX5_ofArcs "ChantRulesModel" yX5_ofArcs 5 (Option.some Jvm.ClassFile.FieldType.int) Q) (hF : x.1.2.2.2.frames = 3 ∧ x.1.2.2.2.locals = 86) (hC : x.2.2.2.2.2 = (fun _ => false)) (hxt : (∀ z ∈ x.2.2.1.2.1.exceptionTable.toList, False)) (h4 : Snd x 4 X4) (h12 : Snd x 12 X12) : Snd x 45 (bX5_ofArcs_45 E Q X4 X12) := by
  unfold bX5_ofArcs_45
  refine s_aload_n rfl G.b dX5_ofArcs_45 ?_
  refine s_getf G.b G.ow G.kn (G.hts _ q1910) (fun _ h => h) fa_73 dX5_ofArcs_46 ?_
  refine s_iload_n rfl G.b dX5_ofArcs_49 ?_
  refine s_iload G.b dX5_ofArcs_50 ?_
  refine s_iconst (by decide) G.b dX5_ofArcs_52 ?_
  refine s_callS G (mX5_of EN) q2079 q2080 q90 q2081 nmk_248 (rm_of hF (Nat.le_of_ble_eq_true rfl) (Nat.le_of_ble_eq_true rfl)) dX5_ofArcs_53 ?_ (sx_out G (fun z hz => (hxt z hz).elim))
  refine s_iald G.b G.kn dX5_ofArcs_56 ?_
  refine s_iconst (by decide) G.b dX5_ofArcs_57 ?_
  refine s_icmpne (tgt := 65) G.b dX5_ofArcs_58 (by decide) (tX5_ofArcs_65 EN G hF hC hxt h4 h12) ?_
  refine s_iconst (by decide) G.b dX5_ofArcs_61 ?_
  exact s_goto (tgt := 66) G.b dX5_ofArcs_62 (by decide) (tX5_ofArcs_66 EN G hF hC hxt h4 h12)
set_option maxHeartbeats 4000000 in
theorem tX5_ofArcs_12 {x : CX} {E : Nat → Value} {Q : Rs → HS → Prop} {X4 X12 : Ct} (EN : EX x E) (G : Gd x cX5_ofArcs "ChantRulesModel" yX5_ofArcs 5 (Option.some Jvm.ClassFile.FieldType.int) Q) (hF : x.1.2.2.2.frames = 3 ∧ x.1.2.2.2.locals = 86) (hC : x.2.2.2.2.2 = (fun _ => false)) (hxt : (∀ z ∈ x.2.2.1.2.1.exceptionTable.toList, False)) (h4 : Snd x 4 X4) (h12 : Snd x 12 X12) : Snd x 12 (bX5_ofArcs_12 E Q X4 X12) := by
  unfold bX5_ofArcs_12
  refine s_iload G.b dX5_ofArcs_12 ?_
  refine s_aload_n rfl G.b dX5_ofArcs_14 ?_
  refine s_getf G.b G.ow G.kn (G.hts _ q1910) (fun _ h => h) fa_73 dX5_ofArcs_15 ?_
  refine s_iconst (by decide) G.b dX5_ofArcs_18 ?_
  refine s_iload_n rfl G.b dX5_ofArcs_19 ?_
  refine s_iadd G.b dX5_ofArcs_20 ?_
  refine s_iald G.b G.kn dX5_ofArcs_21 ?_
  refine s_icmpge (tgt := 74) G.b dX5_ofArcs_22 (by decide) (tX5_ofArcs_74 EN G hF hC hxt h4 h12) ?_
  refine s_iload_n rfl G.b dX5_ofArcs_25 ?_
  refine s_iload_n rfl G.b dX5_ofArcs_26 ?_
  refine s_ifne (tgt := 45) G.b dX5_ofArcs_27 (by decide) (tX5_ofArcs_45 EN G hF hC hxt h4 h12) ?_
  refine s_aload_n rfl G.b dX5_ofArcs_30 ?_
  refine s_getf G.b G.ow G.kn (G.hts _ q1910) (fun _ h => h) fa_73 dX5_ofArcs_31 ?_
  refine s_iload_n rfl G.b dX5_ofArcs_34 ?_
  refine s_iload G.b dX5_ofArcs_35 ?_
  refine s_iconst (by decide) G.b dX5_ofArcs_37 ?_
  refine s_callS G (mX5_of EN) q2079 q2080 q90 q2081 nmk_248 (rm_of hF (Nat.le_of_ble_eq_true rfl) (Nat.le_of_ble_eq_true rfl)) dX5_ofArcs_38 ?_ (sx_out G (fun z hz => (hxt z hz).elim))
  refine s_iald G.b G.kn dX5_ofArcs_41 ?_
  exact s_goto (tgt := 66) G.b dX5_ofArcs_42 (by decide) (tX5_ofArcs_66 EN G hF hC hxt h4 h12)
set_option maxHeartbeats 4000000 in
theorem tX5_ofArcs_4 {x : CX} {E : Nat → Value} {Q : Rs → HS → Prop} {X4 X12 : Ct} (EN : EX x E) (G : Gd x cX5_ofArcs "ChantRulesModel" yX5_ofArcs 5 (Option.some Jvm.ClassFile.FieldType.int) Q) (hF : x.1.2.2.2.frames = 3 ∧ x.1.2.2.2.locals = 86) (hC : x.2.2.2.2.2 = (fun _ => false)) (hxt : (∀ z ∈ x.2.2.1.2.1.exceptionTable.toList, False)) (h4 : Snd x 4 X4) (h12 : Snd x 12 X12) : Snd x 4 (bX5_ofArcs_4 E Q X4 X12) := by
  unfold bX5_ofArcs_4
  refine s_iload_n rfl G.b dX5_ofArcs_4 ?_
  refine s_iconst (by decide) G.b dX5_ofArcs_5 ?_
  refine s_icmpge (tgt := 80) G.b dX5_ofArcs_6 (by decide) (tX5_ofArcs_80 EN G hF hC hxt h4 h12) ?_
  refine s_iconst (by decide) G.b dX5_ofArcs_9 ?_
  refine s_istore G.b (by rw [G.nl]; decide) (fun _ _ => by rw [hC]) dX5_ofArcs_10 ?_
  exact h12
set_option maxHeartbeats 4000000 in
theorem tX5_ofArcs_0 {x : CX} {E : Nat → Value} {Q : Rs → HS → Prop} {X4 X12 : Ct} (EN : EX x E) (G : Gd x cX5_ofArcs "ChantRulesModel" yX5_ofArcs 5 (Option.some Jvm.ClassFile.FieldType.int) Q) (hF : x.1.2.2.2.frames = 3 ∧ x.1.2.2.2.locals = 86) (hC : x.2.2.2.2.2 = (fun _ => false)) (hxt : (∀ z ∈ x.2.2.1.2.1.exceptionTable.toList, False)) (h4 : Snd x 4 X4) (h12 : Snd x 12 X12) : Snd x 0 (bX5_ofArcs_0 E Q X4 X12) := by
  unfold bX5_ofArcs_0
  refine s_iconst (by decide) G.b dX5_ofArcs_0 ?_
  refine s_istore_n rfl G.b (by rw [G.nl]; decide) (fun _ _ => by rw [hC]) dX5_ofArcs_1 ?_
  refine s_iconst (by decide) G.b dX5_ofArcs_2 ?_
  refine s_istore_n rfl G.b (by rw [G.nl]; decide) (fun _ _ => by rw [hC]) dX5_ofArcs_3 ?_
  exact h4
set_option maxHeartbeats 4000000 in
theorem mX5_ofArcs {l : Launch} {D : DE} {s0 : State} {E : Nat → Value} (EN : EV l D s0 E) : rMet l D s0 yX5_ofArcs (ws_ yX5_ofArcs cX5_ofArcs 5 (Option.some Jvm.ClassFile.FieldType.int)) 3 86 (wX5_ofArcs E) := by
  refine body_met (fun _ => false) EN.kn (fun w h => h) (by decide +kernel) rfl (fun av h Q hw => ?_) ?_
  · unfold wX5_ofArcs at hw
    split at hw
    · exact Nat.le_of_ble_eq_true rfl
    · exact hw.elim
  · intro p e s m below meth c av h Q hxt G hw
    unfold wX5_ofArcs at hw
    split at hw
    · exact tX5_ofArcs_0 EN G ⟨rfl, rfl⟩ rfl hxt (fun _ _ _ h => h) (fun _ _ _ h => h) _ _ _ (hw (AW _ 4) (AW _ 12) (tX5_ofArcs_4 EN G ⟨rfl, rfl⟩ rfl hxt (fun _ _ _ h => h) (fun _ _ _ h => h)) (tX5_ofArcs_12 EN G ⟨rfl, rfl⟩ rfl hxt (fun _ _ _ h => h) (fun _ _ _ h => h)))
    · exact hw.elim
/-! ChantRulesModel.account(I)I (X5_account) -/
theorem fa_93 : fieldAt [8] 1 "ChantRulesModel" "changes" "I" := fa_cons (r := (RX5, TX5, 37)) rfl (by decide) rfl rfl rfl (fa_nil)
theorem fa_94 : fieldAt [8] 26 "ChantRulesModel" "textN" "I" := fa_cons (r := (RX5, TX5, 37)) rfl (by decide) rfl rfl rfl (fa_nil)
theorem nmk_249 : nm_ok yX5_ofArcs 1 := ⟨by decide +kernel, by decide +kernel, by decide +kernel⟩
theorem nmk_250 : nm_ok yX5_endsOf 1 := ⟨by decide +kernel, by decide +kernel, by decide +kernel⟩
def bX5_account_115 (E : Nat → Value) (Q : Rs → HS → Prop) : Ct :=
  o_push (.int (-12)) <|
  o_ireturn .int Q
def bX5_account_110 (E : Nat → Value) (Q : Rs → HS → Prop) : Ct :=
  o_aload 0 <|
  o_getf [8] 1 <|
  o_ireturn .int Q
def bX5_account_105 (E : Nat → Value) (Q : Rs → HS → Prop) : Ct :=
  o_aload 0 <|
  o_getf [8] 26 <|
  o_ireturn .int Q
def bX5_account_92 (E : Nat → Value) (Q : Rs → HS → Prop) : Ct :=
  o_aload 0 <|
  o_getf [8] 7 <|
  o_push (.int 14) <|
  o_iload 1 <|
  o_iadd <|
  o_push (.int 8) <|
  o_isub <|
  o_ald [100] <|
  o_ireturn .int Q
def bX5_account_83 (E : Nat → Value) (Q : Rs → HS → Prop) : Ct :=
  o_aload 0 <|
  o_iload 1 <|
  o_push (.int 6) <|
  o_isub <|
  o_callV [8] 2 (wX5_ofArcs E) (x_out Q) <|
  o_ireturn .int Q
def bX5_account_75 (E : Nat → Value) (Q : Rs → HS → Prop) : Ct :=
  o_aload 0 <|
  o_iload 1 <|
  o_push (.int 4) <|
  o_isub <|
  o_callV [8] 2 (wX5_endsOf E) (x_out Q) <|
  o_ireturn .int Q
def bX5_account_68 (E : Nat → Value) (Q : Rs → HS → Prop) : Ct :=
  o_aload 0 <|
  o_getf [8] 7 <|
  o_iload 1 <|
  o_ald [100] <|
  o_ireturn .int Q
def bX5_account_0 (E : Nat → Value) (Q : Rs → HS → Prop) : Ct :=
  o_iload 1 <|
  o_sw [(0, (bX5_account_68 E Q)), (1, (bX5_account_68 E Q)), (2, (bX5_account_68 E Q)), (3, (bX5_account_68 E Q)), (4, (bX5_account_75 E Q)), (5, (bX5_account_75 E Q)), (6, (bX5_account_83 E Q)), (7, (bX5_account_83 E Q)), (8, (bX5_account_92 E Q)), (9, (bX5_account_92 E Q)), (10, (bX5_account_92 E Q)), (11, (bX5_account_105 E Q)), (12, (bX5_account_110 E Q))] (bX5_account_115 E Q)
def wX5_account (E : Nat → Value) : Wp := fun av h Q => match av with
  | [a0, a1] => bX5_account_0 E Q [a0, a1] [] h
  | _ => False
set_option maxHeartbeats 4000000 in
theorem tX5_account_115 {x : CX} {E : Nat → Value} {Q : Rs → HS → Prop} (EN : EX x E) (G : Gd x cX5_account "ChantRulesModel" yX5_account 2 (Option.some Jvm.ClassFile.FieldType.int) Q) (hF : x.1.2.2.2.frames = 4 ∧ x.1.2.2.2.locals = 110) (hC : x.2.2.2.2.2 = (fun _ => false)) (hxt : (∀ z ∈ x.2.2.1.2.1.exceptionTable.toList, False)) : Snd x 115 (bX5_account_115 E Q) := by
  unfold bX5_account_115
  refine s_bipush (by decide) G.b dX5_account_115 ?_
  exact s_ireturn G dX5_account_117
set_option maxHeartbeats 4000000 in
theorem tX5_account_110 {x : CX} {E : Nat → Value} {Q : Rs → HS → Prop} (EN : EX x E) (G : Gd x cX5_account "ChantRulesModel" yX5_account 2 (Option.some Jvm.ClassFile.FieldType.int) Q) (hF : x.1.2.2.2.frames = 4 ∧ x.1.2.2.2.locals = 110) (hC : x.2.2.2.2.2 = (fun _ => false)) (hxt : (∀ z ∈ x.2.2.1.2.1.exceptionTable.toList, False)) : Snd x 110 (bX5_account_110 E Q) := by
  unfold bX5_account_110
  refine s_aload_n rfl G.b dX5_account_110 ?_
  refine s_getf G.b G.ow G.kn (G.hts _ q1904) (fun _ h => h) fa_93 dX5_account_111 ?_
  exact s_ireturn G dX5_account_114
set_option maxHeartbeats 4000000 in
theorem tX5_account_105 {x : CX} {E : Nat → Value} {Q : Rs → HS → Prop} (EN : EX x E) (G : Gd x cX5_account "ChantRulesModel" yX5_account 2 (Option.some Jvm.ClassFile.FieldType.int) Q) (hF : x.1.2.2.2.frames = 4 ∧ x.1.2.2.2.locals = 110) (hC : x.2.2.2.2.2 = (fun _ => false)) (hxt : (∀ z ∈ x.2.2.1.2.1.exceptionTable.toList, False)) : Snd x 105 (bX5_account_105 E Q) := by
  unfold bX5_account_105
  refine s_aload_n rfl G.b dX5_account_105 ?_
  refine s_getf G.b G.ow G.kn (G.hts _ q1929) (fun _ h => h) fa_94 dX5_account_106 ?_
  exact s_ireturn G dX5_account_109
set_option maxHeartbeats 4000000 in
theorem tX5_account_92 {x : CX} {E : Nat → Value} {Q : Rs → HS → Prop} (EN : EX x E) (G : Gd x cX5_account "ChantRulesModel" yX5_account 2 (Option.some Jvm.ClassFile.FieldType.int) Q) (hF : x.1.2.2.2.frames = 4 ∧ x.1.2.2.2.locals = 110) (hC : x.2.2.2.2.2 = (fun _ => false)) (hxt : (∀ z ∈ x.2.2.1.2.1.exceptionTable.toList, False)) : Snd x 92 (bX5_account_92 E Q) := by
  unfold bX5_account_92
  refine s_aload_n rfl G.b dX5_account_92 ?_
  refine s_getf G.b G.ow G.kn (G.hts _ q1910) (fun _ h => h) fa_73 dX5_account_93 ?_
  refine s_bipush (by decide) G.b dX5_account_96 ?_
  refine s_iload_n rfl G.b dX5_account_98 ?_
  refine s_iadd G.b dX5_account_99 ?_
  refine s_bipush (by decide) G.b dX5_account_100 ?_
  refine s_isub G.b dX5_account_102 ?_
  refine s_iald G.b G.kn dX5_account_103 ?_
  exact s_ireturn G dX5_account_104
set_option maxHeartbeats 4000000 in
theorem tX5_account_83 {x : CX} {E : Nat → Value} {Q : Rs → HS → Prop} (EN : EX x E) (G : Gd x cX5_account "ChantRulesModel" yX5_account 2 (Option.some Jvm.ClassFile.FieldType.int) Q) (hF : x.1.2.2.2.frames = 4 ∧ x.1.2.2.2.locals = 110) (hC : x.2.2.2.2.2 = (fun _ => false)) (hxt : (∀ z ∈ x.2.2.1.2.1.exceptionTable.toList, False)) : Snd x 83 (bX5_account_83 E Q) := by
  unfold bX5_account_83
  refine s_aload_n rfl G.b dX5_account_83 ?_
  refine s_iload_n rfl G.b dX5_account_84 ?_
  refine s_bipush (by decide) G.b dX5_account_85 ?_
  refine s_isub G.b dX5_account_87 ?_
  refine s_callV G (mX5_ofArcs EN) q2310 q2312 (sel_cons (r := (RX5, TX5, 37)) (by decide) rfl qs74 (sel_nil)) q90 q2313 nmk_249 (rm_of hF (Nat.le_of_ble_eq_true rfl) (Nat.le_of_ble_eq_true rfl)) dX5_account_88 ?_ (sx_out G (fun z hz => (hxt z hz).elim))
  exact s_ireturn G dX5_account_91
set_option maxHeartbeats 4000000 in
theorem tX5_account_75 {x : CX} {E : Nat → Value} {Q : Rs → HS → Prop} (EN : EX x E) (G : Gd x cX5_account "ChantRulesModel" yX5_account 2 (Option.some Jvm.ClassFile.FieldType.int) Q) (hF : x.1.2.2.2.frames = 4 ∧ x.1.2.2.2.locals = 110) (hC : x.2.2.2.2.2 = (fun _ => false)) (hxt : (∀ z ∈ x.2.2.1.2.1.exceptionTable.toList, False)) : Snd x 75 (bX5_account_75 E Q) := by
  unfold bX5_account_75
  refine s_aload_n rfl G.b dX5_account_75 ?_
  refine s_iload_n rfl G.b dX5_account_76 ?_
  refine s_iconst (by decide) G.b dX5_account_77 ?_
  refine s_isub G.b dX5_account_78 ?_
  refine s_callV G (mX5_endsOf EN) q2063 q2065 (sel_cons (r := (RX5, TX5, 37)) (by decide) rfl qs39 (sel_nil)) q90 q2066 nmk_250 (rm_of hF (Nat.le_of_ble_eq_true rfl) (Nat.le_of_ble_eq_true rfl)) dX5_account_79 ?_ (sx_out G (fun z hz => (hxt z hz).elim))
  exact s_ireturn G dX5_account_82
set_option maxHeartbeats 4000000 in
theorem tX5_account_68 {x : CX} {E : Nat → Value} {Q : Rs → HS → Prop} (EN : EX x E) (G : Gd x cX5_account "ChantRulesModel" yX5_account 2 (Option.some Jvm.ClassFile.FieldType.int) Q) (hF : x.1.2.2.2.frames = 4 ∧ x.1.2.2.2.locals = 110) (hC : x.2.2.2.2.2 = (fun _ => false)) (hxt : (∀ z ∈ x.2.2.1.2.1.exceptionTable.toList, False)) : Snd x 68 (bX5_account_68 E Q) := by
  unfold bX5_account_68
  refine s_aload_n rfl G.b dX5_account_68 ?_
  refine s_getf G.b G.ow G.kn (G.hts _ q1910) (fun _ h => h) fa_73 dX5_account_69 ?_
  refine s_iload_n rfl G.b dX5_account_72 ?_
  refine s_iald G.b G.kn dX5_account_73 ?_
  exact s_ireturn G dX5_account_74
set_option maxHeartbeats 4000000 in
theorem tX5_account_0 {x : CX} {E : Nat → Value} {Q : Rs → HS → Prop} (EN : EX x E) (G : Gd x cX5_account "ChantRulesModel" yX5_account 2 (Option.some Jvm.ClassFile.FieldType.int) Q) (hF : x.1.2.2.2.frames = 4 ∧ x.1.2.2.2.locals = 110) (hC : x.2.2.2.2.2 = (fun _ => false)) (hxt : (∀ z ∈ x.2.2.1.2.1.exceptionTable.toList, False)) : Snd x 0 (bX5_account_0 E Q) := by
  unfold bX5_account_0
  refine s_iload_n rfl G.b dX5_account_0 ?_
  exact s_tsw (tD := 115) G.b dX5_account_1 (by decide) (tX5_account_115 EN G hF hC hxt) rfl (tsw_0 (tsw_cons (67) 68 (by decide) rfl (by decide) (tX5_account_68 EN G hF hC hxt) (tsw_cons (67) 68 (by decide) rfl (by decide) (tX5_account_68 EN G hF hC hxt) (tsw_cons (67) 68 (by decide) rfl (by decide) (tX5_account_68 EN G hF hC hxt) (tsw_cons (67) 68 (by decide) rfl (by decide) (tX5_account_68 EN G hF hC hxt) (tsw_cons (74) 75 (by decide) rfl (by decide) (tX5_account_75 EN G hF hC hxt) (tsw_cons (74) 75 (by decide) rfl (by decide) (tX5_account_75 EN G hF hC hxt) (tsw_cons (82) 83 (by decide) rfl (by decide) (tX5_account_83 EN G hF hC hxt) (tsw_cons (82) 83 (by decide) rfl (by decide) (tX5_account_83 EN G hF hC hxt) (tsw_cons (91) 92 (by decide) rfl (by decide) (tX5_account_92 EN G hF hC hxt) (tsw_cons (91) 92 (by decide) rfl (by decide) (tX5_account_92 EN G hF hC hxt) (tsw_cons (91) 92 (by decide) rfl (by decide) (tX5_account_92 EN G hF hC hxt) (tsw_cons (104) 105 (by decide) rfl (by decide) (tX5_account_105 EN G hF hC hxt) (tsw_cons (109) 110 (by decide) rfl (by decide) (tX5_account_110 EN G hF hC hxt) (tsw_nil)))))))))))))))
set_option maxHeartbeats 4000000 in
theorem mX5_account {l : Launch} {D : DE} {s0 : State} {E : Nat → Value} (EN : EV l D s0 E) : rMet l D s0 yX5_account (ws_ yX5_account cX5_account 2 (Option.some Jvm.ClassFile.FieldType.int)) 4 110 (wX5_account E) := by
  refine body_met (fun _ => false) EN.kn (fun w h => h) (by decide +kernel) rfl (fun av h Q hw => ?_) ?_
  · unfold wX5_account at hw
    split at hw
    · exact Nat.le_of_ble_eq_true rfl
    · exact hw.elim
  · intro p e s m below meth c av h Q hxt G hw
    unfold wX5_account at hw
    split at hw
    · exact tX5_account_0 EN G ⟨rfl, rfl⟩ rfl hxt _ _ _ hw
    · exact hw.elim
