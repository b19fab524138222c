set_option maxRecDepth 100000
/-! ChantRulesModel.isIn(III)Z (X5_isIn) -/
def bX5_isIn_15 (E : Nat → Value) (Q : Rs → HS → Prop) : Ct :=
  o_ireturn .boolean Q
def bX5_isIn_14 (E : Nat → Value) (Q : Rs → HS → Prop) : Ct :=
  o_push (.int 0) <|
  (bX5_isIn_15 E Q)
def bX5_isIn_0 (E : Nat → Value) (Q : Rs → HS → Prop) : Ct :=
  o_iload 0 <|
  o_iload 1 <|
  o_icmplt (bX5_isIn_14 E Q) <|
  o_iload 0 <|
  o_iload 2 <|
  o_icmpgt (bX5_isIn_14 E Q) <|
  o_push (.int 1) <|
  (bX5_isIn_15 E Q)
def wX5_isIn (E : Nat → Value) : Wp := fun av h Q => match av with
  | [a0, a1, a2] => bX5_isIn_0 E Q [a0, a1, a2] [] h
  | _ => False
set_option maxHeartbeats 4000000 in
theorem tX5_isIn_15 {x : CX} {E : Nat → Value} {Q : Rs → HS → Prop} (EN : EX x E) (G : Gd x cX5_isIn "ChantRulesModel" yX5_isIn 3 (Option.some Jvm.ClassFile.FieldType.boolean) Q) (hF : x.1.2.2.2.frames = 2 ∧ x.1.2.2.2.locals = 64) (hC : x.2.2.2.2.2 = (fun _ => false)) (hxt : (∀ z ∈ x.2.2.1.2.1.exceptionTable.toList, False)) : Snd x 15 (bX5_isIn_15 E Q) := by
  unfold bX5_isIn_15
  exact s_ireturn G dX5_isIn_15
set_option maxHeartbeats 4000000 in
theorem tX5_isIn_14 {x : CX} {E : Nat → Value} {Q : Rs → HS → Prop} (EN : EX x E) (G : Gd x cX5_isIn "ChantRulesModel" yX5_isIn 3 (Option.some Jvm.ClassFile.FieldType.boolean) Q) (hF : x.1.2.2.2.frames = 2 ∧ x.1.2.2.2.locals = 64) (hC : x.2.2.2.2.2 = (fun _ => false)) (hxt : (∀ z ∈ x.2.2.1.2.1.exceptionTable.toList, False)) : Snd x 14 (bX5_isIn_14 E Q) := by
  unfold bX5_isIn_14
  refine s_iconst (by decide) G.b dX5_isIn_14 ?_
  exact (tX5_isIn_15 EN G hF hC hxt)
set_option maxHeartbeats 4000000 in
theorem tX5_isIn_0 {x : CX} {E : Nat → Value} {Q : Rs → HS → Prop} (EN : EX x E) (G : Gd x cX5_isIn "ChantRulesModel" yX5_isIn 3 (Option.some Jvm.ClassFile.FieldType.boolean) Q) (hF : x.1.2.2.2.frames = 2 ∧ x.1.2.2.2.locals = 64) (hC : x.2.2.2.2.2 = (fun _ => false)) (hxt : (∀ z ∈ x.2.2.1.2.1.exceptionTable.toList, False)) : Snd x 0 (bX5_isIn_0 E Q) := by
  unfold bX5_isIn_0
  refine s_iload_n rfl G.b dX5_isIn_0 ?_
  refine s_iload_n rfl G.b dX5_isIn_1 ?_
  refine s_icmplt (tgt := 14) G.b dX5_isIn_2 (by decide) (tX5_isIn_14 EN G hF hC hxt) ?_
  refine s_iload_n rfl G.b dX5_isIn_5 ?_
  refine s_iload_n rfl G.b dX5_isIn_6 ?_
  refine s_icmpgt (tgt := 14) G.b dX5_isIn_7 (by decide) (tX5_isIn_14 EN G hF hC hxt) ?_
  refine s_iconst (by decide) G.b dX5_isIn_10 ?_
  exact s_goto (tgt := 15) G.b dX5_isIn_11 (by decide) (tX5_isIn_15 EN G hF hC hxt)
set_option maxHeartbeats 4000000 in
theorem mX5_isIn {l : Launch} {D : DE} {s0 : State} {E : Nat → Value} (EN : EV l D s0 E) : rMet l D s0 yX5_isIn (ws_ yX5_isIn cX5_isIn 3 (Option.some Jvm.ClassFile.FieldType.boolean)) 2 64 (wX5_isIn E) := by
  refine body_met (fun _ => false) EN.kn (fun w h => h) (by decide +kernel) rfl (fun av h Q hw => ?_) ?_
  · unfold wX5_isIn at hw
    split at hw
    · exact Nat.le_of_ble_eq_true rfl
    · exact hw.elim
  · intro p e s m below meth c av h Q hxt G hw
    unfold wX5_isIn at hw
    split at hw
    · exact tX5_isIn_0 EN G ⟨rfl, rfl⟩ rfl hxt _ _ _ hw
    · exact hw.elim
/-! ChantRulesModel.append(I)I (X5_append) -/
theorem nmk_251 : nm_ok yX5_isIn 3 := ⟨by decide +kernel, by decide +kernel, by decide +kernel⟩
def bX5_append_26 (E : Nat → Value) (Q : Rs → HS → Prop) : Ct :=
  o_aload 0 <|
  o_getf [8] 21 <|
  o_aload 0 <|
  o_getf [8] 26 <|
  o_iload 1 <|
  o_ast [(100, .int)] <|
  o_aload 0 <|
  o_dup <|
  o_getf [8] 26 <|
  o_push (.int 1) <|
  o_iadd <|
  o_putf [8] 26 .int <|
  o_aload 0 <|
  o_getf [8] 26 <|
  o_ireturn .int Q
def bX5_append_14 (E : Nat → Value) (Q : Rs → HS → Prop) : Ct :=
  o_aload 0 <|
  o_getf [8] 26 <|
  o_push (.int 60) <|
  o_icmpne (bX5_append_26 E Q) <|
  o_push (.int (-13)) <|
  o_ireturn .int Q
def bX5_append_0 (E : Nat → Value) (Q : Rs → HS → Prop) : Ct :=
  o_iload 1 <|
  o_push (.int 32) <|
  o_push (.int 126) <|
  o_call 3 (wX5_isIn E) (x_out Q) <|
  o_ifne (bX5_append_14 E Q) <|
  o_push (.int (-12)) <|
  o_ireturn .int Q
def wX5_append (E : Nat → Value) : Wp := fun av h Q => match av with
  | [a0, a1] => bX5_append_0 E Q [a0, a1] [] h
  | _ => False
set_option maxHeartbeats 4000000 in
theorem tX5_append_26 {x : CX} {E : Nat → Value} {Q : Rs → HS → Prop} (EN : EX x E) (G : Gd x cX5_append "ChantRulesModel" yX5_append 2 (Option.some Jvm.ClassFile.FieldType.int) Q) (hF : x.1.2.2.2.frames = 3 ∧ x.1.2.2.2.locals = 86) (hC : x.2.2.2.2.2 = (fun _ => false)) (hxt : (∀ z ∈ x.2.2.1.2.1.exceptionTable.toList, False)) : Snd x 26 (bX5_append_26 E Q) := by
  unfold bX5_append_26
  refine s_aload_n rfl G.b dX5_append_26 ?_
  refine s_getf G.b G.ow G.kn (G.hts _ q1924) (fun _ h => h) fa_76 dX5_append_27 ?_
  refine s_aload_n rfl G.b dX5_append_30 ?_
  refine s_getf G.b G.ow G.kn (G.hts _ q1929) (fun _ h => h) fa_94 dX5_append_31 ?_
  refine s_iload_n rfl G.b dX5_append_34 ?_
  refine s_iast G.b G.kn dX5_append_35 ?_
  refine s_aload_n rfl G.b dX5_append_36 ?_
  refine s_dup G.b dX5_append_37 ?_
  refine s_getf G.b G.ow G.kn (G.hts _ q1929) (fun _ h => h) fa_94 dX5_append_38 ?_
  refine s_iconst (by decide) G.b dX5_append_41 ?_
  refine s_iadd G.b dX5_append_42 ?_
  refine s_putf G.b G.ow G.kn (G.hts _ q1929) (fun _ h => h) fa_94 (la_cons (r := (RX5, TX5, 37)) G.hts (by decide) rfl q1992 (la_nil)) (by decide +kernel) dX5_append_43 ?_
  refine s_aload_n rfl G.b dX5_append_46 ?_
  refine s_getf G.b G.ow G.kn (G.hts _ q1929) (fun _ h => h) fa_94 dX5_append_47 ?_
  exact s_ireturn G dX5_append_50
set_option maxHeartbeats 4000000 in
theorem tX5_append_14 {x : CX} {E : Nat → Value} {Q : Rs → HS → Prop} (EN : EX x E) (G : Gd x cX5_append "ChantRulesModel" yX5_append 2 (Option.some Jvm.ClassFile.FieldType.int) Q) (hF : x.1.2.2.2.frames = 3 ∧ x.1.2.2.2.locals = 86) (hC : x.2.2.2.2.2 = (fun _ => false)) (hxt : (∀ z ∈ x.2.2.1.2.1.exceptionTable.toList, False)) : Snd x 14 (bX5_append_14 E Q) := by
  unfold bX5_append_14
  refine s_aload_n rfl G.b dX5_append_14 ?_
  refine s_getf G.b G.ow G.kn (G.hts _ q1929) (fun _ h => h) fa_94 dX5_append_15 ?_
  refine s_bipush (by decide) G.b dX5_append_18 ?_
  refine s_icmpne (tgt := 26) G.b dX5_append_20 (by decide) (tX5_append_26 EN G hF hC hxt) ?_
  refine s_bipush (by decide) G.b dX5_append_23 ?_
  exact s_ireturn G dX5_append_25
set_option maxHeartbeats 4000000 in
theorem tX5_append_0 {x : CX} {E : Nat → Value} {Q : Rs → HS → Prop} (EN : EX x E) (G : Gd x cX5_append "ChantRulesModel" yX5_append 2 (Option.some Jvm.ClassFile.FieldType.int) Q) (hF : x.1.2.2.2.frames = 3 ∧ x.1.2.2.2.locals = 86) (hC : x.2.2.2.2.2 = (fun _ => false)) (hxt : (∀ z ∈ x.2.2.1.2.1.exceptionTable.toList, False)) : Snd x 0 (bX5_append_0 E Q) := by
  unfold bX5_append_0
  refine s_iload_n rfl G.b dX5_append_0 ?_
  refine s_bipush (by decide) G.b dX5_append_1 ?_
  refine s_bipush (by decide) G.b dX5_append_3 ?_
  refine s_callS G (mX5_isIn EN) q2033 q2034 q90 q2035 nmk_251 (rm_of hF (Nat.le_of_ble_eq_true rfl) (Nat.le_of_ble_eq_true rfl)) dX5_append_5 ?_ (sx_out G (fun z hz => (hxt z hz).elim))
  refine s_ifne (tgt := 14) G.b dX5_append_8 (by decide) (tX5_append_14 EN G hF hC hxt) ?_
  refine s_bipush (by decide) G.b dX5_append_11 ?_
  exact s_ireturn G dX5_append_13
set_option maxHeartbeats 4000000 in
theorem mX5_append {l : Launch} {D : DE} {s0 : State} {E : Nat → Value} (EN : EV l D s0 E) : rMet l D s0 yX5_append (ws_ yX5_append cX5_append 2 (Option.some Jvm.ClassFile.FieldType.int)) 3 86 (wX5_append E) := by
  refine body_met (fun _ => false) EN.kn (fun w h => h) (by decide +kernel) rfl (fun av h Q hw => ?_) ?_
  · unfold wX5_append at hw
    split at hw
    · exact Nat.le_of_ble_eq_true rfl
    · exact hw.elim
  · intro p e s m below meth c av h Q hxt G hw
    unfold wX5_append at hw
    split at hw
    · exact tX5_append_0 EN G ⟨rfl, rfl⟩ rfl hxt _ _ _ hw
    · exact hw.elim
/-! ChantRulesModel.lays([I[I)V (X5_lays) -/
def bX5_lays_21 (E : Nat → Value) (Q : Rs → HS → Prop) (X2 : Ct) : Ct :=
  o_return Q
def bX5_lays_2 (E : Nat → Value) (Q : Rs → HS → Prop) (X2 : Ct) : Ct :=
  o_iload 2 <|
  o_push (.int 137) <|
  o_icmpge (bX5_lays_21 E Q X2) <|
  o_aload 0 <|
  o_iload 2 <|
  o_aload 1 <|
  o_iload 2 <|
  o_ald [100] <|
  o_ast [(100, .int)] <|
  o_iinc 2 1 <|
  X2
def bX5_lays_0 (E : Nat → Value) (Q : Rs → HS → Prop) (X2 : Ct) : Ct :=
  o_push (.int 0) <|
  o_istore 2 <|
  X2
def wX5_lays (E : Nat → Value) : Wp := fun av h Q => match av with
  | [a0, a1] => ∀ X2 : Ct, (∀ ls st h, bX5_lays_2 E Q X2 ls st h → X2 ls st h) → bX5_lays_0 E Q X2 [a0, a1, jk] [] h
  | _ => False
set_option maxHeartbeats 4000000 in
theorem tX5_lays_21 {x : CX} {E : Nat → Value} {Q : Rs → HS → Prop} {X2 : Ct} (EN : EX x E) (G : Gd x cX5_lays "ChantRulesModel" yX5_lays 3 (Option.none : Option Jvm.ClassFile.FieldType) Q) (hF : x.1.2.2.2.frames = 2 ∧ x.1.2.2.2.locals = 64) (hC : x.2.2.2.2.2 = (fun _ => false)) (hxt : (∀ z ∈ x.2.2.1.2.1.exceptionTable.toList, False)) (h2 : Snd x 2 X2) : Snd x 21 (bX5_lays_21 E Q X2) := by
  unfold bX5_lays_21
  exact s_return G dX5_lays_21
set_option maxHeartbeats 4000000 in
theorem tX5_lays_2 {x : CX} {E : Nat → Value} {Q : Rs → HS → Prop} {X2 : Ct} (EN : EX x E) (G : Gd x cX5_lays "ChantRulesModel" yX5_lays 3 (Option.none : Option Jvm.ClassFile.FieldType) Q) (hF : x.1.2.2.2.frames = 2 ∧ x.1.2.2.2.locals = 64) (hC : x.2.2.2.2.2 = (fun _ => false)) (hxt : (∀ z ∈ x.2.2.1.2.1.exceptionTable.toList, False)) (h2 : Snd x 2 X2) : Snd x 2 (bX5_lays_2 E Q X2) := by
  unfold bX5_lays_2
  refine s_iload_n rfl G.b dX5_lays_2 ?_
  refine s_sipush (by decide) G.b dX5_lays_3 ?_
  refine s_icmpge (tgt := 21) G.b dX5_lays_6 (by decide) (tX5_lays_21 EN G hF hC hxt h2) ?_
  refine s_aload_n rfl G.b dX5_lays_9 ?_
  refine s_iload_n rfl G.b dX5_lays_10 ?_
  refine s_aload_n rfl G.b dX5_lays_11 ?_
  refine s_iload_n rfl G.b dX5_lays_12 ?_
  refine s_iald G.b G.kn dX5_lays_13 ?_
  refine s_iast G.b G.kn dX5_lays_14 ?_
  refine s_iinc (by decide) G.b (by rw [G.nl]; decide) (fun _ _ => by rw [hC]) dX5_lays_15 ?_
  exact s_goto (tgt := 2) G.b dX5_lays_18 (by decide) h2
set_option maxHeartbeats 4000000 in
theorem tX5_lays_0 {x : CX} {E : Nat → Value} {Q : Rs → HS → Prop} {X2 : Ct} (EN : EX x E) (G : Gd x cX5_lays "ChantRulesModel" yX5_lays 3 (Option.none : Option Jvm.ClassFile.FieldType) Q) (hF : x.1.2.2.2.frames = 2 ∧ x.1.2.2.2.locals = 64) (hC : x.2.2.2.2.2 = (fun _ => false)) (hxt : (∀ z ∈ x.2.2.1.2.1.exceptionTable.toList, False)) (h2 : Snd x 2 X2) : Snd x 0 (bX5_lays_0 E Q X2) := by
  unfold bX5_lays_0
  refine s_iconst (by decide) G.b dX5_lays_0 ?_
  refine s_istore_n rfl G.b (by rw [G.nl]; decide) (fun _ _ => by rw [hC]) dX5_lays_1 ?_
  exact h2
set_option maxHeartbeats 4000000 in
theorem mX5_lays {l : Launch} {D : DE} {s0 : State} {E : Nat → Value} (EN : EV l D s0 E) : rMet l D s0 yX5_lays (ws_ yX5_lays cX5_lays 3 (Option.none : Option Jvm.ClassFile.FieldType)) 2 64 (wX5_lays E) := by
  refine body_met (fun _ => false) EN.kn (fun w h => h) (by decide +kernel) rfl (fun av h Q hw => ?_) ?_
  · unfold wX5_lays at hw
    split at hw
    · exact Nat.le_of_ble_eq_true rfl
    · exact hw.elim
  · intro p e s m below meth c av h Q hxt G hw
    unfold wX5_lays at hw
    split at hw
    · exact tX5_lays_0 EN G ⟨rfl, rfl⟩ rfl hxt (fun _ _ _ h => h) _ _ _ (hw (AW _ 2) (tX5_lays_2 EN G ⟨rfl, rfl⟩ rfl hxt (fun _ _ _ h => h)))
    · exact hw.elim
/-! ChantRulesModel.begins()V (X5_begins) -/
theorem fa_95 : fieldAt [8] 0 "ChantRulesModel" "fails" "I" := fa_cons (r := (RX5, TX5, 37)) rfl (by decide) rfl rfl rfl (fa_nil)
theorem nmk_252 : nm_ok yX5_lays 2 := ⟨by decide +kernel, by decide +kernel, by decide +kernel⟩
def bX5_begins_0 (E : Nat → Value) (Q : Rs → HS → Prop) : Ct :=
  o_aload 0 <|
  o_push (.int 0) <|
  o_putf [8] 0 .int <|
  o_aload 0 <|
  o_getf [8] 8 <|
  o_aload 0 <|
  o_getf [8] 7 <|
  o_call 2 (wX5_lays E) (x_out Q) <|
  o_return Q
def wX5_begins (E : Nat → Value) : Wp := fun av h Q => match av with
  | [a0] => bX5_begins_0 E Q [a0] [] h
  | _ => False
set_option maxHeartbeats 4000000 in
theorem tX5_begins_0 {x : CX} {E : Nat → Value} {Q : Rs → HS → Prop} (EN : EX x E) (G : Gd x cX5_begins "ChantRulesModel" yX5_begins 1 (Option.none : Option Jvm.ClassFile.FieldType) Q) (hF : x.1.2.2.2.frames = 3 ∧ x.1.2.2.2.locals = 86) (hC : x.2.2.2.2.2 = (fun _ => false)) (hxt : (∀ z ∈ x.2.2.1.2.1.exceptionTable.toList, False)) : Snd x 0 (bX5_begins_0 E Q) := by
  unfold bX5_begins_0
  refine s_aload_n rfl G.b dX5_begins_0 ?_
  refine s_iconst (by decide) G.b dX5_begins_1 ?_
  refine s_putf G.b G.ow G.kn (G.hts _ q1903) (fun _ h => h) fa_95 (la_cons (r := (RX5, TX5, 37)) G.hts (by decide) rfl q1940 (la_nil)) (by decide +kernel) dX5_begins_2 ?_
  refine s_aload_n rfl G.b dX5_begins_5 ?_
  refine s_getf G.b G.ow G.kn (G.hts _ q1911) (fun _ h => h) fa_84 dX5_begins_6 ?_
  refine s_aload_n rfl G.b dX5_begins_9 ?_
  refine s_getf G.b G.ow G.kn (G.hts _ q1910) (fun _ h => h) fa_73 dX5_begins_10 ?_
  refine s_callS G (mX5_lays EN) q2023 q2024 q90 q2025 nmk_252 (rm_of hF (Nat.le_of_ble_eq_true rfl) (Nat.le_of_ble_eq_true rfl)) dX5_begins_13 ?_ (sx_out G (fun z hz => (hxt z hz).elim))
  exact s_return G dX5_begins_16
set_option maxHeartbeats 4000000 in
theorem mX5_begins {l : Launch} {D : DE} {s0 : State} {E : Nat → Value} (EN : EV l D s0 E) : rMet l D s0 yX5_begins (ws_ yX5_begins cX5_begins 1 (Option.none : Option Jvm.ClassFile.FieldType)) 3 86 (wX5_begins E) := by
  refine body_met (fun _ => false) EN.kn (fun w h => h) (by decide +kernel) rfl (fun av h Q hw => ?_) ?_
  · unfold wX5_begins at hw
    split at hw
    · exact Nat.le_of_ble_eq_true rfl
    · exact hw.elim
  · intro p e s m below meth c av h Q hxt G hw
    unfold wX5_begins at hw
    split at hw
    · exact tX5_begins_0 EN G ⟨rfl, rfl⟩ rfl hxt _ _ _ hw
    · exact hw.elim
/-! ChantRulesModel.ends(I)I (X5_ends) -/
def bX5_ends_109 (E : Nat → Value) (Q : Rs → HS → Prop) (X34 X75 : Ct) : Ct :=
  o_aload 0 <|
  o_dup <|
  o_getf [8] 1 <|
  o_push (.int 1) <|
  o_iadd <|
  o_putf [8] 1 .int <|
  o_iload 1 <|
  o_ireturn .int Q
def bX5_ends_75 (E : Nat → Value) (Q : Rs → HS → Prop) (X34 X75 : Ct) : Ct :=
  o_iload 2 <|
  o_push (.int 137) <|
  o_icmpge (bX5_ends_109 E Q X34 X75) <|
  o_aload 0 <|
  o_getf [8] 10 <|
  o_aload 0 <|
  o_getf [8] 1 <|
  o_push (.int 137) <|
  o_imul <|
  o_iload 2 <|
  o_iadd <|
  o_aload 0 <|
  o_getf [8] 8 <|
  o_iload 2 <|
  o_ald [100] <|
  o_ast [(100, .int)] <|
  o_iinc 2 1 <|
  X75
def bX5_ends_73 (E : Nat → Value) (Q : Rs → HS → Prop) (X34 X75 : Ct) : Ct :=
  o_push (.int 0) <|
  o_istore 2 <|
  X75
def bX5_ends_63 (E : Nat → Value) (Q : Rs → HS → Prop) (X34 X75 : Ct) : Ct :=
  o_aload 0 <|
  o_dup <|
  o_getf [8] 1 <|
  o_push (.int 1) <|
  o_isub <|
  o_putf [8] 1 .int <|
  (bX5_ends_73 E Q X34 X75)
def bX5_ends_34 (E : Nat → Value) (Q : Rs → HS → Prop) (X34 X75 : Ct) : Ct :=
  o_iload 2 <|
  o_push (.int 959) <|
  o_icmpge (bX5_ends_63 E Q X34 X75) <|
  o_aload 0 <|
  o_getf [8] 10 <|
  o_iload 2 <|
  o_aload 0 <|
  o_getf [8] 10 <|
  o_iload 2 <|
  o_push (.int 137) <|
  o_iadd <|
  o_ald [100] <|
  o_ast [(100, .int)] <|
  o_iinc 2 1 <|
  X34
def bX5_ends_23 (E : Nat → Value) (Q : Rs → HS → Prop) (X34 X75 : Ct) : Ct :=
  o_aload 0 <|
  o_getf [8] 1 <|
  o_push (.int 8) <|
  o_icmpne (bX5_ends_73 E Q X34 X75) <|
  o_push (.int 0) <|
  o_istore 2 <|
  X34
def bX5_ends_0 (E : Nat → Value) (Q : Rs → HS → Prop) (X34 X75 : Ct) : Ct :=
  o_aload 0 <|
  o_getf [8] 0 <|
  o_ifeq (bX5_ends_23 E Q X34 X75) <|
  o_aload 0 <|
  o_getf [8] 7 <|
  o_aload 0 <|
  o_getf [8] 8 <|
  o_call 2 (wX5_lays E) (x_out Q) <|
  o_aload 0 <|
  o_getf [8] 0 <|
  o_ireturn .int Q
def wX5_ends (E : Nat → Value) : Wp := fun av h Q => match av with
  | [a0, a1] => ∀ X34 X75 : Ct, (∀ ls st h, bX5_ends_34 E Q X34 X75 ls st h → X34 ls st h) → (∀ ls st h, bX5_ends_75 E Q X34 X75 ls st h → X75 ls st h) → bX5_ends_0 E Q X34 X75 [a0, a1, jk] [] h
  | _ => False
set_option maxHeartbeats 4000000 in
theorem tX5_ends_109 {x : CX} {E : Nat → Value} {Q : Rs → HS → Prop} {X34 X75 : Ct} (EN : EX x E) (G : Gd x cX5_ends "ChantRulesModel" yX5_ends 3 (Option.some Jvm.ClassFile.FieldType.int) Q) (hF : x.1.2.2.2.frames = 3 ∧ x.1.2.2.2.locals = 86) (hC : x.2.2.2.2.2 = (fun _ => false)) (hxt : (∀ z ∈ x.2.2.1.2.1.exceptionTable.toList, False)) (h34 : Snd x 34 X34) (h75 : Snd x 75 X75) : Snd x 109 (bX5_ends_109 E Q X34 X75) := by
  unfold bX5_ends_109
  refine s_aload_n rfl G.b dX5_ends_109 ?_
  refine s_dup G.b dX5_ends_110 ?_
  refine s_getf G.b G.ow G.kn (G.hts _ q1904) (fun _ h => h) fa_93 dX5_ends_111 ?_
  refine s_iconst (by decide) G.b dX5_ends_114 ?_
  refine s_iadd G.b dX5_ends_115 ?_
  refine s_putf G.b G.ow G.kn (G.hts _ q1904) (fun _ h => h) fa_93 (la_cons (r := (RX5, TX5, 37)) G.hts (by decide) rfl q1942 (la_nil)) (by decide +kernel) dX5_ends_116 ?_
  refine s_iload_n rfl G.b dX5_ends_119 ?_
  exact s_ireturn G dX5_ends_120
set_option maxHeartbeats 4000000 in
theorem tX5_ends_75 {x : CX} {E : Nat → Value} {Q : Rs → HS → Prop} {X34 X75 : Ct} (EN : EX x E) (G : Gd x cX5_ends "ChantRulesModel" yX5_ends 3 (Option.some Jvm.ClassFile.FieldType.int) Q) (hF : x.1.2.2.2.frames = 3 ∧ x.1.2.2.2.locals = 86) (hC : x.2.2.2.2.2 = (fun _ => false)) (hxt : (∀ z ∈ x.2.2.1.2.1.exceptionTable.toList, False)) (h34 : Snd x 34 X34) (h75 : Snd x 75 X75) : Snd x 75 (bX5_ends_75 E Q X34 X75) := by
  unfold bX5_ends_75
  refine s_iload_n rfl G.b dX5_ends_75 ?_
  refine s_sipush (by decide) G.b dX5_ends_76 ?_
  refine s_icmpge (tgt := 109) G.b dX5_ends_79 (by decide) (tX5_ends_109 EN G hF hC hxt h34 h75) ?_
  refine s_aload_n rfl G.b dX5_ends_82 ?_
  refine s_getf G.b G.ow G.kn (G.hts _ q1913) (fun _ h => h) fa_86 dX5_ends_83 ?_
  refine s_aload_n rfl G.b dX5_ends_86 ?_
  refine s_getf G.b G.ow G.kn (G.hts _ q1904) (fun _ h => h) fa_93 dX5_ends_87 ?_
  refine s_sipush (by decide) G.b dX5_ends_90 ?_
  refine s_imul G.b dX5_ends_93 ?_
  refine s_iload_n rfl G.b dX5_ends_94 ?_
  refine s_iadd G.b dX5_ends_95 ?_
  refine s_aload_n rfl G.b dX5_ends_96 ?_
  refine s_getf G.b G.ow G.kn (G.hts _ q1911) (fun _ h => h) fa_84 dX5_ends_97 ?_
  refine s_iload_n rfl G.b dX5_ends_100 ?_
  refine s_iald G.b G.kn dX5_ends_101 ?_
  refine s_iast G.b G.kn dX5_ends_102 ?_
  refine s_iinc (by decide) G.b (by rw [G.nl]; decide) (fun _ _ => by rw [hC]) dX5_ends_103 ?_
  exact s_goto (tgt := 75) G.b dX5_ends_106 (by decide) h75
set_option maxHeartbeats 4000000 in
theorem tX5_ends_73 {x : CX} {E : Nat → Value} {Q : Rs → HS → Prop} {X34 X75 : Ct} (EN : EX x E) (G : Gd x cX5_ends "ChantRulesModel" yX5_ends 3 (Option.some Jvm.ClassFile.FieldType.int) Q) (hF : x.1.2.2.2.frames = 3 ∧ x.1.2.2.2.locals = 86) (hC : x.2.2.2.2.2 = (fun _ => false)) (hxt : (∀ z ∈ x.2.2.1.2.1.exceptionTable.toList, False)) (h34 : Snd x 34 X34) (h75 : Snd x 75 X75) : Snd x 73 (bX5_ends_73 E Q X34 X75) := by
  unfold bX5_ends_73
  refine s_iconst (by decide) G.b dX5_ends_73 ?_
  refine s_istore_n rfl G.b (by rw [G.nl]; decide) (fun _ _ => by rw [hC]) dX5_ends_74 ?_
  exact h75
set_option maxHeartbeats 4000000 in
theorem tX5_ends_63 {x : CX} {E : Nat → Value} {Q : Rs → HS → Prop} {X34 X75 : Ct} (EN : EX x E) (G : Gd x cX5_ends "ChantRulesModel" yX5_ends 3 (Option.some Jvm.ClassFile.FieldType.int) Q) (hF : x.1.2.2.2.frames = 3 ∧ x.1.2.2.2.locals = 86) (hC : x.2.2.2.2.2 = (fun _ => false)) (hxt : (∀ z ∈ x.2.2.1.2.1.exceptionTable.toList, False)) (h34 : Snd x 34 X34) (h75 : Snd x 75 X75) : Snd x 63 (bX5_ends_63 E Q X34 X75) := by
  unfold bX5_ends_63
  refine s_aload_n rfl G.b dX5_ends_63 ?_
  refine s_dup G.b dX5_ends_64 ?_
  refine s_getf G.b G.ow G.kn (G.hts _ q1904) (fun _ h => h) fa_93 dX5_ends_65 ?_
  refine s_iconst (by decide) G.b dX5_ends_68 ?_
  refine s_isub G.b dX5_ends_69 ?_
  refine s_putf G.b G.ow G.kn (G.hts _ q1904) (fun _ h => h) fa_93 (la_cons (r := (RX5, TX5, 37)) G.hts (by decide) rfl q1942 (la_nil)) (by decide +kernel) dX5_ends_70 ?_
  exact (tX5_ends_73 EN G hF hC hxt h34 h75)
set_option maxHeartbeats 4000000 in
theorem tX5_ends_34 {x : CX} {E : Nat → Value} {Q : Rs → HS → Prop} {X34 X75 : Ct} (EN : EX x E) (G : Gd x cX5_ends "ChantRulesModel" yX5_ends 3 (Option.some Jvm.ClassFile.FieldType.int) Q) (hF : x.1.2.2.2.frames = 3 ∧ x.1.2.2.2.locals = 86) (hC : x.2.2.2.2.2 = (fun _ => false)) (hxt : (∀ z ∈ x.2.2.1.2.1.exceptionTable.toList, False)) (h34 : Snd x 34 X34) (h75 : Snd x 75 X75) : Snd x 34 (bX5_ends_34 E Q X34 X75) := by
  unfold bX5_ends_34
  refine s_iload_n rfl G.b dX5_ends_34 ?_
  refine s_sipush (by decide) G.b dX5_ends_35 ?_
  refine s_icmpge (tgt := 63) G.b dX5_ends_38 (by decide) (tX5_ends_63 EN G hF hC hxt h34 h75) ?_
  refine s_aload_n rfl G.b dX5_ends_41 ?_
  refine s_getf G.b G.ow G.kn (G.hts _ q1913) (fun _ h => h) fa_86 dX5_ends_42 ?_
  refine s_iload_n rfl G.b dX5_ends_45 ?_
  refine s_aload_n rfl G.b dX5_ends_46 ?_
  refine s_getf G.b G.ow G.kn (G.hts _ q1913) (fun _ h => h) fa_86 dX5_ends_47 ?_
  refine s_iload_n rfl G.b dX5_ends_50 ?_
  refine s_sipush (by decide) G.b dX5_ends_51 ?_
  refine s_iadd G.b dX5_ends_54 ?_
  refine s_iald G.b G.kn dX5_ends_55 ?_
  refine s_iast G.b G.kn dX5_ends_56 ?_
  refine s_iinc (by decide) G.b (by rw [G.nl]; decide) (fun _ _ => by rw [hC]) dX5_ends_57 ?_
  exact s_goto (tgt := 34) G.b dX5_ends_60 (by decide) h34
set_option maxHeartbeats 4000000 in
theorem tX5_ends_23 {x : CX} {E : Nat → Value} {Q : Rs → HS → Prop} {X34 X75 : Ct} (EN : EX x E) (G : Gd x cX5_ends "ChantRulesModel" yX5_ends 3 (Option.some Jvm.ClassFile.FieldType.int) Q) (hF : x.1.2.2.2.frames = 3 ∧ x.1.2.2.2.locals = 86) (hC : x.2.2.2.2.2 = (fun _ => false)) (hxt : (∀ z ∈ x.2.2.1.2.1.exceptionTable.toList, False)) (h34 : Snd x 34 X34) (h75 : Snd x 75 X75) : Snd x 23 (bX5_ends_23 E Q X34 X75) := by
  unfold bX5_ends_23
  refine s_aload_n rfl G.b dX5_ends_23 ?_
  refine s_getf G.b G.ow G.kn (G.hts _ q1904) (fun _ h => h) fa_93 dX5_ends_24 ?_
  refine s_bipush (by decide) G.b dX5_ends_27 ?_
  refine s_icmpne (tgt := 73) G.b dX5_ends_29 (by decide) (tX5_ends_73 EN G hF hC hxt h34 h75) ?_
  refine s_iconst (by decide) G.b dX5_ends_32 ?_
  refine s_istore_n rfl G.b (by rw [G.nl]; decide) (fun _ _ => by rw [hC]) dX5_ends_33 ?_
  exact h34
set_option maxHeartbeats 4000000 in
theorem tX5_ends_0 {x : CX} {E : Nat → Value} {Q : Rs → HS → Prop} {X34 X75 : Ct} (EN : EX x E) (G : Gd x cX5_ends "ChantRulesModel" yX5_ends 3 (Option.some Jvm.ClassFile.FieldType.int) Q) (hF : x.1.2.2.2.frames = 3 ∧ x.1.2.2.2.locals = 86) (hC : x.2.2.2.2.2 = (fun _ => false)) (hxt : (∀ z ∈ x.2.2.1.2.1.exceptionTable.toList, False)) (h34 : Snd x 34 X34) (h75 : Snd x 75 X75) : Snd x 0 (bX5_ends_0 E Q X34 X75) := by
  unfold bX5_ends_0
  refine s_aload_n rfl G.b dX5_ends_0 ?_
  refine s_getf G.b G.ow G.kn (G.hts _ q1903) (fun _ h => h) fa_95 dX5_ends_1 ?_
  refine s_ifeq (tgt := 23) G.b dX5_ends_4 (by decide) (tX5_ends_23 EN G hF hC hxt h34 h75) ?_
  refine s_aload_n rfl G.b dX5_ends_7 ?_
  refine s_getf G.b G.ow G.kn (G.hts _ q1910) (fun _ h => h) fa_73 dX5_ends_8 ?_
  refine s_aload_n rfl G.b dX5_ends_11 ?_
  refine s_getf G.b G.ow G.kn (G.hts _ q1911) (fun _ h => h) fa_84 dX5_ends_12 ?_
  refine s_callS G (mX5_lays EN) q2023 q2024 q90 q2025 nmk_252 (rm_of hF (Nat.le_of_ble_eq_true rfl) (Nat.le_of_ble_eq_true rfl)) dX5_ends_15 ?_ (sx_out G (fun z hz => (hxt z hz).elim))
  refine s_aload_n rfl G.b dX5_ends_18 ?_
  refine s_getf G.b G.ow G.kn (G.hts _ q1903) (fun _ h => h) fa_95 dX5_ends_19 ?_
  exact s_ireturn G dX5_ends_22
set_option maxHeartbeats 4000000 in
theorem mX5_ends {l : Launch} {D : DE} {s0 : State} {E : Nat → Value} (EN : EV l D s0 E) : rMet l D s0 yX5_ends (ws_ yX5_ends cX5_ends 3 (Option.some Jvm.ClassFile.FieldType.int)) 3 86 (wX5_ends E) := by
  refine body_met (fun _ => false) EN.kn (fun w h => h) (by decide +kernel) rfl (fun av h Q hw => ?_) ?_
  · unfold wX5_ends at hw
    split at hw
    · exact Nat.le_of_ble_eq_true rfl
    · exact hw.elim
  · intro p e s m below meth c av h Q hxt G hw
    unfold wX5_ends at hw
    split at hw
    · exact tX5_ends_0 EN G ⟨rfl, rfl⟩ rfl hxt (fun _ _ _ h => h) (fun _ _ _ h => h) _ _ _ (hw (AW _ 34) (AW _ 75) (tX5_ends_34 EN G ⟨rfl, rfl⟩ rfl hxt (fun _ _ _ h => h) (fun _ _ _ h => h)) (tX5_ends_75 EN G ⟨rfl, rfl⟩ rfl hxt (fun _ _ _ h => h) (fun _ _ _ h => h)))
    · exact hw.elim
/-! ChantRulesModel.fail(I)I (X5_fail) -/
def bX5_fail_0 (E : Nat → Value) (Q : Rs → HS → Prop) : Ct :=
  o_aload 0 <|
  o_iload 1 <|
  o_putf [8] 0 .int <|
  o_iload 1 <|
  o_ireturn .int Q
def wX5_fail (E : Nat → Value) : Wp := fun av h Q => match av with
  | [a0, a1] => bX5_fail_0 E Q [a0, a1] [] h
  | _ => False
set_option maxHeartbeats 4000000 in
theorem tX5_fail_0 {x : CX} {E : Nat → Value} {Q : Rs → HS → Prop} (EN : EX x E) (G : Gd x cX5_fail "ChantRulesModel" yX5_fail 2 (Option.some Jvm.ClassFile.FieldType.int) Q) (hF : x.1.2.2.2.frames = 2 ∧ x.1.2.2.2.locals = 64) (hC : x.2.2.2.2.2 = (fun _ => false)) (hxt : (∀ z ∈ x.2.2.1.2.1.exceptionTable.toList, False)) : Snd x 0 (bX5_fail_0 E Q) := by
  unfold bX5_fail_0
  refine s_aload_n rfl G.b dX5_fail_0 ?_
  refine s_iload_n rfl G.b dX5_fail_1 ?_
  refine s_putf G.b G.ow G.kn (G.hts _ q1903) (fun _ h => h) fa_95 (la_cons (r := (RX5, TX5, 37)) G.hts (by decide) rfl q1940 (la_nil)) (by decide +kernel) dX5_fail_2 ?_
  refine s_iload_n rfl G.b dX5_fail_5 ?_
  exact s_ireturn G dX5_fail_6
set_option maxHeartbeats 4000000 in
theorem mX5_fail {l : Launch} {D : DE} {s0 : State} {E : Nat → Value} (EN : EV l D s0 E) : rMet l D s0 yX5_fail (ws_ yX5_fail cX5_fail 2 (Option.some Jvm.ClassFile.FieldType.int)) 2 64 (wX5_fail E) := by
  refine body_met (fun _ => false) EN.kn (fun w h => h) (by decide +kernel) rfl (fun av h Q hw => ?_) ?_
  · unfold wX5_fail at hw
    split at hw
    · exact Nat.le_of_ble_eq_true rfl
    · exact hw.elim
  · intro p e s m below meth c av h Q hxt G hw
    unfold wX5_fail at hw
    split at hw
    · exact tX5_fail_0 EN G ⟨rfl, rfl⟩ rfl hxt _ _ _ hw
    · exact hw.elim
/-! ChantRulesModel.isRule(I)Z (X5_isRule) -/
def bX5_isRule_0 (E : Nat → Value) (Q : Rs → HS → Prop) : Ct :=
  o_iload 0 <|
  o_push (.int 0) <|
  o_push (.int 1) <|
  o_call 3 (wX5_isIn E) (x_out Q) <|
  o_ireturn .boolean Q
def wX5_isRule (E : Nat → Value) : Wp := fun av h Q => match av with
  | [a0] => bX5_isRule_0 E Q [a0] [] h
  | _ => False
set_option maxHeartbeats 4000000 in
theorem tX5_isRule_0 {x : CX} {E : Nat → Value} {Q : Rs → HS → Prop} (EN : EX x E) (G : Gd x cX5_isRule "ChantRulesModel" yX5_isRule 1 (Option.some Jvm.ClassFile.FieldType.boolean) Q) (hF : x.1.2.2.2.frames = 3 ∧ x.1.2.2.2.locals = 86) (hC : x.2.2.2.2.2 = (fun _ => false)) (hxt : (∀ z ∈ x.2.2.1.2.1.exceptionTable.toList, False)) : Snd x 0 (bX5_isRule_0 E Q) := by
  unfold bX5_isRule_0
  refine s_iload_n rfl G.b dX5_isRule_0 ?_
  refine s_iconst (by decide) G.b dX5_isRule_1 ?_
  refine s_iconst (by decide) G.b dX5_isRule_2 ?_
  refine s_callS G (mX5_isIn EN) q2033 q2034 q90 q2035 nmk_251 (rm_of hF (Nat.le_of_ble_eq_true rfl) (Nat.le_of_ble_eq_true rfl)) dX5_isRule_3 ?_ (sx_out G (fun z hz => (hxt z hz).elim))
  exact s_ireturn G dX5_isRule_6
set_option maxHeartbeats 4000000 in
theorem mX5_isRule {l : Launch} {D : DE} {s0 : State} {E : Nat → Value} (EN : EV l D s0 E) : rMet l D s0 yX5_isRule (ws_ yX5_isRule cX5_isRule 1 (Option.some Jvm.ClassFile.FieldType.boolean)) 3 86 (wX5_isRule E) := by
  refine body_met (fun _ => false) EN.kn (fun w h => h) (by decide +kernel) rfl (fun av h Q hw => ?_) ?_
  · unfold wX5_isRule at hw
    split at hw
    · exact Nat.le_of_ble_eq_true rfl
    · exact hw.elim
  · intro p e s m below meth c av h Q hxt G hw
    unfold wX5_isRule at hw
    split at hw
    · exact tX5_isRule_0 EN G ⟨rfl, rfl⟩ rfl hxt _ _ _ hw
    · exact hw.elim
/-! ChantRulesModel.isState(II)Z (X5_isState) -/
theorem nmk_253 : nm_ok yX5_isRule 1 := ⟨by decide +kernel, by decide +kernel, by decide +kernel⟩
def bX5_isState_30 (E : Nat → Value) (Q : Rs → HS → Prop) : Ct :=
  o_ireturn .boolean Q
def bX5_isState_29 (E : Nat → Value) (Q : Rs → HS → Prop) : Ct :=
  o_push (.int 0) <|
  (bX5_isState_30 E Q)
def bX5_isState_0 (E : Nat → Value) (Q : Rs → HS → Prop) : Ct :=
  o_iload 1 <|
  o_call 1 (wX5_isRule E) (x_out Q) <|
  o_ifeq (bX5_isState_29 E Q) <|
  o_iload 2 <|
  o_push (.int 0) <|
  o_aload 0 <|
  o_getf [8] 7 <|
  o_push (.int 0) <|
  o_iload 1 <|
  o_iadd <|
  o_ald [100] <|
  o_push (.int 1) <|
  o_isub <|
  o_call 3 (wX5_isIn E) (x_out Q) <|
  o_ifeq (bX5_isState_29 E Q) <|
  o_push (.int 1) <|
  (bX5_isState_30 E Q)
def wX5_isState (E : Nat → Value) : Wp := fun av h Q => match av with
  | [a0, a1, a2] => bX5_isState_0 E Q [a0, a1, a2] [] h
  | _ => False
set_option maxHeartbeats 4000000 in
theorem tX5_isState_30 {x : CX} {E : Nat → Value} {Q : Rs → HS → Prop} (EN : EX x E) (G : Gd x cX5_isState "ChantRulesModel" yX5_isState 3 (Option.some Jvm.ClassFile.FieldType.boolean) Q) (hF : x.1.2.2.2.frames = 4 ∧ x.1.2.2.2.locals = 106) (hC : x.2.2.2.2.2 = (fun _ => false)) (hxt : (∀ z ∈ x.2.2.1.2.1.exceptionTable.toList, False)) : Snd x 30 (bX5_isState_30 E Q) := by
  unfold bX5_isState_30
  exact s_ireturn G dX5_isState_30
set_option maxHeartbeats 4000000 in
theorem tX5_isState_29 {x : CX} {E : Nat → Value} {Q : Rs → HS → Prop} (EN : EX x E) (G : Gd x cX5_isState "ChantRulesModel" yX5_isState 3 (Option.some Jvm.ClassFile.FieldType.boolean) Q) (hF : x.1.2.2.2.frames = 4 ∧ x.1.2.2.2.locals = 106) (hC : x.2.2.2.2.2 = (fun _ => false)) (hxt : (∀ z ∈ x.2.2.1.2.1.exceptionTable.toList, False)) : Snd x 29 (bX5_isState_29 E Q) := by
  unfold bX5_isState_29
  refine s_iconst (by decide) G.b dX5_isState_29 ?_
  exact (tX5_isState_30 EN G hF hC hxt)
set_option maxHeartbeats 4000000 in
theorem tX5_isState_0 {x : CX} {E : Nat → Value} {Q : Rs → HS → Prop} (EN : EX x E) (G : Gd x cX5_isState "ChantRulesModel" yX5_isState 3 (Option.some Jvm.ClassFile.FieldType.boolean) Q) (hF : x.1.2.2.2.frames = 4 ∧ x.1.2.2.2.locals = 106) (hC : x.2.2.2.2.2 = (fun _ => false)) (hxt : (∀ z ∈ x.2.2.1.2.1.exceptionTable.toList, False)) : Snd x 0 (bX5_isState_0 E Q) := by
  unfold bX5_isState_0
  refine s_iload_n rfl G.b dX5_isState_0 ?_
  refine s_callS G (mX5_isRule EN) q2030 q2031 q90 q2032 nmk_253 (rm_of hF (Nat.le_of_ble_eq_true rfl) (Nat.le_of_ble_eq_true rfl)) dX5_isState_1 ?_ (sx_out G (fun z hz => (hxt z hz).elim))
  refine s_ifeq (tgt := 29) G.b dX5_isState_4 (by decide) (tX5_isState_29 EN G hF hC hxt) ?_
  refine s_iload_n rfl G.b dX5_isState_7 ?_
  refine s_iconst (by decide) G.b dX5_isState_8 ?_
  refine s_aload_n rfl G.b dX5_isState_9 ?_
  refine s_getf G.b G.ow G.kn (G.hts _ q1910) (fun _ h => h) fa_73 dX5_isState_10 ?_
  refine s_iconst (by decide) G.b dX5_isState_13 ?_
  refine s_iload_n rfl G.b dX5_isState_14 ?_
  refine s_iadd G.b dX5_isState_15 ?_
  refine s_iald G.b G.kn dX5_isState_16 ?_
  refine s_iconst (by decide) G.b dX5_isState_17 ?_
  refine s_isub G.b dX5_isState_18 ?_
  refine s_callS G (mX5_isIn EN) q2033 q2034 q90 q2035 nmk_251 (rm_of hF (Nat.le_of_ble_eq_true rfl) (Nat.le_of_ble_eq_true rfl)) dX5_isState_19 ?_ (sx_out G (fun z hz => (hxt z hz).elim))
  refine s_ifeq (tgt := 29) G.b dX5_isState_22 (by decide) (tX5_isState_29 EN G hF hC hxt) ?_
  refine s_iconst (by decide) G.b dX5_isState_25 ?_
  exact s_goto (tgt := 30) G.b dX5_isState_26 (by decide) (tX5_isState_30 EN G hF hC hxt)
set_option maxHeartbeats 4000000 in
theorem mX5_isState {l : Launch} {D : DE} {s0 : State} {E : Nat → Value} (EN : EV l D s0 E) : rMet l D s0 yX5_isState (ws_ yX5_isState cX5_isState 3 (Option.some Jvm.ClassFile.FieldType.boolean)) 4 106 (wX5_isState E) := by
  refine body_met (fun _ => false) EN.kn (fun w h => h) (by decide +kernel) rfl (fun av h Q hw => ?_) ?_
  · unfold wX5_isState at hw
    split at hw
    · exact Nat.le_of_ble_eq_true rfl
    · exact hw.elim
  · intro p e s m below meth c av h Q hxt G hw
    unfold wX5_isState at hw
    split at hw
    · exact tX5_isState_0 EN G ⟨rfl, rfl⟩ rfl hxt _ _ _ hw
    · exact hw.elim
/-! ChantRulesModel.like(IIIII)I (X5_like) -/
def bX5_like_91 (E : Nat → Value) (Q : Rs → HS → Prop) (X3 : Ct) : Ct :=
  o_push (.int (-1)) <|
  o_ireturn .int Q
def bX5_like_85 (E : Nat → Value) (Q : Rs → HS → Prop) (X3 : Ct) : Ct :=
  o_iinc 6 1 <|
  X3
def bX5_like_84 (E : Nat → Value) (Q : Rs → HS → Prop) (X3 : Ct) : Ct :=
  o_ireturn .int Q
def bX5_like_3 (E : Nat → Value) (Q : Rs → HS → Prop) (X3 : Ct) : Ct :=
  o_iload 6 <|
  o_aload 0 <|
  o_getf [8] 7 <|
  o_push (.int 2) <|
  o_iload 1 <|
  o_iadd <|
  o_ald [100] <|
  o_icmpge (bX5_like_91 E Q X3) <|
  o_aload 0 <|
  o_getf [8] 7 <|
  o_iload 1 <|
  o_iload 6 <|
  o_push (.int 0) <|
  o_call 3 (wX5_of E) (x_out Q) <|
  o_ald [100] <|
  o_iload 2 <|
  o_icmpne (bX5_like_85 E Q X3) <|
  o_aload 0 <|
  o_getf [8] 7 <|
  o_iload 1 <|
  o_iload 6 <|
  o_push (.int 1) <|
  o_call 3 (wX5_of E) (x_out Q) <|
  o_ald [100] <|
  o_iload 3 <|
  o_icmpne (bX5_like_85 E Q X3) <|
  o_aload 0 <|
  o_getf [8] 7 <|
  o_iload 1 <|
  o_iload 6 <|
  o_push (.int 2) <|
  o_call 3 (wX5_of E) (x_out Q) <|
  o_ald [100] <|
  o_iload 4 <|
  o_icmpne (bX5_like_85 E Q X3) <|
  o_aload 0 <|
  o_getf [8] 7 <|
  o_iload 1 <|
  o_iload 6 <|
  o_push (.int 3) <|
  o_call 3 (wX5_of E) (x_out Q) <|
  o_ald [100] <|
  o_iload 5 <|
  o_icmpne (bX5_like_85 E Q X3) <|
  o_iload 6 <|
  (bX5_like_84 E Q X3)
def bX5_like_0 (E : Nat → Value) (Q : Rs → HS → Prop) (X3 : Ct) : Ct :=
  o_push (.int 0) <|
  o_istore 6 <|
  X3
def wX5_like (E : Nat → Value) : Wp := fun av h Q => match av with
  | [a0, a1, a2, a3, a4, a5] => ∀ X3 : Ct, (∀ ls st h, bX5_like_3 E Q X3 ls st h → X3 ls st h) → bX5_like_0 E Q X3 [a0, a1, a2, a3, a4, a5, jk] [] h
  | _ => False
set_option maxHeartbeats 4000000 in
theorem tX5_like_91 {x : CX} {E : Nat → Value} {Q : Rs → HS → Prop} {X3 : Ct} (EN : EX x E) (G : Gd x cX5_like "ChantRulesModel" yX5_like 7 (Option.some Jvm.ClassFile.FieldType.int) Q) (hF : x.1.2.2.2.frames = 3 ∧ x.1.2.2.2.locals = 86) (hC : x.2.2.2.2.2 = (fun _ => false)) (hxt : (∀ z ∈ x.2.2.1.2.1.exceptionTable.toList, False)) (h3 : Snd x 3 X3) : Snd x 91 (bX5_like_91 E Q X3) := by
  unfold bX5_like_91
  refine s_iconst (by decide) G.b dX5_like_91 ?_
  exact s_ireturn G dX5_like_92
set_option maxHeartbeats 4000000 in
theorem tX5_like_85 {x : CX} {E : Nat → Value} {Q : Rs → HS → Prop} {X3 : Ct} (EN : EX x E) (G : Gd x cX5_like "ChantRulesModel" yX5_like 7 (Option.some Jvm.ClassFile.FieldType.int) Q) (hF : x.1.2.2.2.frames = 3 ∧ x.1.2.2.2.locals = 86) (hC : x.2.2.2.2.2 = (fun _ => false)) (hxt : (∀ z ∈ x.2.2.1.2.1.exceptionTable.toList, False)) (h3 : Snd x 3 X3) : Snd x 85 (bX5_like_85 E Q X3) := by
  unfold bX5_like_85
  refine s_iinc (by decide) G.b (by rw [G.nl]; decide) (fun _ _ => by rw [hC]) dX5_like_85 ?_
  exact s_goto (tgt := 3) G.b dX5_like_88 (by decide) h3
set_option maxHeartbeats 4000000 in
theorem tX5_like_84 {x : CX} {E : Nat → Value} {Q : Rs → HS → Prop} {X3 : Ct} (EN : EX x E) (G : Gd x cX5_like "ChantRulesModel" yX5_like 7 (Option.some Jvm.ClassFile.FieldType.int) Q) (hF : x.1.2.2.2.frames = 3 ∧ x.1.2.2.2.locals = 86) (hC : x.2.2.2.2.2 = (fun _ => false)) (hxt : (∀ z ∈ x.2.2.1.2.1.exceptionTable.toList, False)) (h3 : Snd x 3 X3) : Snd x 84 (bX5_like_84 E Q X3) := by
  unfold bX5_like_84
  exact s_ireturn G dX5_like_84
set_option maxHeartbeats 4000000 in
theorem tX5_like_3 {x : CX} {E : Nat → Value} {Q : Rs → HS → Prop} {X3 : Ct} (EN : EX x E) (G : Gd x cX5_like "ChantRulesModel" yX5_like 7 (Option.some Jvm.ClassFile.FieldType.int) Q) (hF : x.1.2.2.2.frames = 3 ∧ x.1.2.2.2.locals = 86) (hC : x.2.2.2.2.2 = (fun _ => false)) (hxt : (∀ z ∈ x.2.2.1.2.1.exceptionTable.toList, False)) (h3 : Snd x 3 X3) : Snd x 3 (bX5_like_3 E Q X3) := by
  unfold bX5_like_3
  refine s_iload G.b dX5_like_3 ?_
  refine s_aload_n rfl G.b dX5_like_5 ?_
  refine s_getf G.b G.ow G.kn (G.hts _ q1910) (fun _ h => h) fa_73 dX5_like_6 ?_
  refine s_iconst (by decide) G.b dX5_like_9 ?_
  refine s_iload_n rfl G.b dX5_like_10 ?_
  refine s_iadd G.b dX5_like_11 ?_
  refine s_iald G.b G.kn dX5_like_12 ?_
  refine s_icmpge (tgt := 91) G.b dX5_like_13 (by decide) (tX5_like_91 EN G hF hC hxt h3) ?_
  refine s_aload_n rfl G.b dX5_like_16 ?_
  refine s_getf G.b G.ow G.kn (G.hts _ q1910) (fun _ h => h) fa_73 dX5_like_17 ?_
  refine s_iload_n rfl G.b dX5_like_20 ?_
  refine s_iload G.b dX5_like_21 ?_
  refine s_iconst (by decide) G.b dX5_like_23 ?_
  refine s_callS G (mX5_of EN) q2079 q2080 q90 q2081 nmk_248 (rm_of hF (Nat.le_of_ble_eq_true rfl) (Nat.le_of_ble_eq_true rfl)) dX5_like_24 ?_ (sx_out G (fun z hz => (hxt z hz).elim))
  refine s_iald G.b G.kn dX5_like_27 ?_
  refine s_iload_n rfl G.b dX5_like_28 ?_
  refine s_icmpne (tgt := 85) G.b dX5_like_29 (by decide) (tX5_like_85 EN G hF hC hxt h3) ?_
  refine s_aload_n rfl G.b dX5_like_32 ?_
  refine s_getf G.b G.ow G.kn (G.hts _ q1910) (fun _ h => h) fa_73 dX5_like_33 ?_
  refine s_iload_n rfl G.b dX5_like_36 ?_
  refine s_iload G.b dX5_like_37 ?_
  refine s_iconst (by decide) G.b dX5_like_39 ?_
  refine s_callS G (mX5_of EN) q2079 q2080 q90 q2081 nmk_248 (rm_of hF (Nat.le_of_ble_eq_true rfl) (Nat.le_of_ble_eq_true rfl)) dX5_like_40 ?_ (sx_out G (fun z hz => (hxt z hz).elim))
  refine s_iald G.b G.kn dX5_like_43 ?_
  refine s_iload_n rfl G.b dX5_like_44 ?_
  refine s_icmpne (tgt := 85) G.b dX5_like_45 (by decide) (tX5_like_85 EN G hF hC hxt h3) ?_
  refine s_aload_n rfl G.b dX5_like_48 ?_
  refine s_getf G.b G.ow G.kn (G.hts _ q1910) (fun _ h => h) fa_73 dX5_like_49 ?_
  refine s_iload_n rfl G.b dX5_like_52 ?_
  refine s_iload G.b dX5_like_53 ?_
  refine s_iconst (by decide) G.b dX5_like_55 ?_
  refine s_callS G (mX5_of EN) q2079 q2080 q90 q2081 nmk_248 (rm_of hF (Nat.le_of_ble_eq_true rfl) (Nat.le_of_ble_eq_true rfl)) dX5_like_56 ?_ (sx_out G (fun z hz => (hxt z hz).elim))
  refine s_iald G.b G.kn dX5_like_59 ?_
  refine s_iload G.b dX5_like_60 ?_
  refine s_icmpne (tgt := 85) G.b dX5_like_62 (by decide) (tX5_like_85 EN G hF hC hxt h3) ?_
  refine s_aload_n rfl G.b dX5_like_65 ?_
  refine s_getf G.b G.ow G.kn (G.hts _ q1910) (fun _ h => h) fa_73 dX5_like_66 ?_
  refine s_iload_n rfl G.b dX5_like_69 ?_
  refine s_iload G.b dX5_like_70 ?_
  refine s_iconst (by decide) G.b dX5_like_72 ?_
  refine s_callS G (mX5_of EN) q2079 q2080 q90 q2081 nmk_248 (rm_of hF (Nat.le_of_ble_eq_true rfl) (Nat.le_of_ble_eq_true rfl)) dX5_like_73 ?_ (sx_out G (fun z hz => (hxt z hz).elim))
  refine s_iald G.b G.kn dX5_like_76 ?_
  refine s_iload G.b dX5_like_77 ?_
  refine s_icmpne (tgt := 85) G.b dX5_like_79 (by decide) (tX5_like_85 EN G hF hC hxt h3) ?_
  refine s_iload G.b dX5_like_82 ?_
  exact (tX5_like_84 EN G hF hC hxt h3)
set_option maxHeartbeats 4000000 in
theorem tX5_like_0 {x : CX} {E : Nat → Value} {Q : Rs → HS → Prop} {X3 : Ct} (EN : EX x E) (G : Gd x cX5_like "ChantRulesModel" yX5_like 7 (Option.some Jvm.ClassFile.FieldType.int) Q) (hF : x.1.2.2.2.frames = 3 ∧ x.1.2.2.2.locals = 86) (hC : x.2.2.2.2.2 = (fun _ => false)) (hxt : (∀ z ∈ x.2.2.1.2.1.exceptionTable.toList, False)) (h3 : Snd x 3 X3) : Snd x 0 (bX5_like_0 E Q X3) := by
  unfold bX5_like_0
  refine s_iconst (by decide) G.b dX5_like_0 ?_
  refine s_istore G.b (by rw [G.nl]; decide) (fun _ _ => by rw [hC]) dX5_like_1 ?_
  exact h3
set_option maxHeartbeats 4000000 in
theorem mX5_like {l : Launch} {D : DE} {s0 : State} {E : Nat → Value} (EN : EV l D s0 E) : rMet l D s0 yX5_like (ws_ yX5_like cX5_like 7 (Option.some Jvm.ClassFile.FieldType.int)) 3 86 (wX5_like E) := by
  refine body_met (fun _ => false) EN.kn (fun w h => h) (by decide +kernel) rfl (fun av h Q hw => ?_) ?_
  · unfold wX5_like at hw
    split at hw
    · exact Nat.le_of_ble_eq_true rfl
    · exact hw.elim
  · intro p e s m below meth c av h Q hxt G hw
    unfold wX5_like at hw
    split at hw
    · exact tX5_like_0 EN G ⟨rfl, rfl⟩ rfl hxt (fun _ _ _ h => h) _ _ _ (hw (AW _ 3) (tX5_like_3 EN G ⟨rfl, rfl⟩ rfl hxt (fun _ _ _ h => h)))
    · exact hw.elim
/-! ChantRulesModel.refuses(II)I (X5_refuses) -/
theorem fa_96 : fieldAt [8] 2 "ChantRulesModel" "why" "I" := fa_cons (r := (RX5, TX5, 37)) rfl (by decide) rfl rfl rfl (fa_nil)
theorem fa_97 : fieldAt [8] 3 "ChantRulesModel" "detail" "I" := fa_cons (r := (RX5, TX5, 37)) rfl (by decide) rfl rfl rfl (fa_nil)
theorem fa_98 : fieldAt [8] 4 "ChantRulesModel" "behindWhy" "I" := fa_cons (r := (RX5, TX5, 37)) rfl (by decide) rfl rfl rfl (fa_nil)
theorem nmk_254 : nm_ok yX5_fail 1 := ⟨by decide +kernel, by decide +kernel, by decide +kernel⟩
def bX5_refuses_0 (E : Nat → Value) (Q : Rs → HS → Prop) : Ct :=
  o_aload 0 <|
  o_iload 1 <|
  o_putf [8] 2 .int <|
  o_aload 0 <|
  o_iload 2 <|
  o_putf [8] 3 .int <|
  o_aload 0 <|
  o_push (.int 0) <|
  o_putf [8] 4 .int <|
  o_aload 0 <|
  o_push (.int (-14)) <|
  o_callV [8] 2 (wX5_fail E) (x_out Q) <|
  o_ireturn .int Q
def wX5_refuses (E : Nat → Value) : Wp := fun av h Q => match av with
  | [a0, a1, a2] => bX5_refuses_0 E Q [a0, a1, a2] [] h
  | _ => False
set_option maxHeartbeats 4000000 in
theorem tX5_refuses_0 {x : CX} {E : Nat → Value} {Q : Rs → HS → Prop} (EN : EX x E) (G : Gd x cX5_refuses "ChantRulesModel" yX5_refuses 3 (Option.some Jvm.ClassFile.FieldType.int) Q) (hF : x.1.2.2.2.frames = 3 ∧ x.1.2.2.2.locals = 85) (hC : x.2.2.2.2.2 = (fun _ => false)) (hxt : (∀ z ∈ x.2.2.1.2.1.exceptionTable.toList, False)) : Snd x 0 (bX5_refuses_0 E Q) := by
  unfold bX5_refuses_0
  refine s_aload_n rfl G.b dX5_refuses_0 ?_
  refine s_iload_n rfl G.b dX5_refuses_1 ?_
  refine s_putf G.b G.ow G.kn (G.hts _ q1905) (fun _ h => h) fa_96 (la_cons (r := (RX5, TX5, 37)) G.hts (by decide) rfl q1944 (la_nil)) (by decide +kernel) dX5_refuses_2 ?_
  refine s_aload_n rfl G.b dX5_refuses_5 ?_
  refine s_iload_n rfl G.b dX5_refuses_6 ?_
  refine s_putf G.b G.ow G.kn (G.hts _ q1906) (fun _ h => h) fa_97 (la_cons (r := (RX5, TX5, 37)) G.hts (by decide) rfl q1946 (la_nil)) (by decide +kernel) dX5_refuses_7 ?_
  refine s_aload_n rfl G.b dX5_refuses_10 ?_
  refine s_iconst (by decide) G.b dX5_refuses_11 ?_
  refine s_putf G.b G.ow G.kn (G.hts _ q1907) (fun _ h => h) fa_98 (la_cons (r := (RX5, TX5, 37)) G.hts (by decide) rfl q1948 (la_nil)) (by decide +kernel) dX5_refuses_12 ?_
  refine s_aload_n rfl G.b dX5_refuses_15 ?_
  refine s_bipush (by decide) G.b dX5_refuses_16 ?_
  refine s_callV G (mX5_fail EN) q2036 q2038 (sel_cons (r := (RX5, TX5, 37)) (by decide) rfl qs34 (sel_nil)) q90 q2039 nmk_254 (rm_of hF (Nat.le_of_ble_eq_true rfl) (Nat.le_of_ble_eq_true rfl)) dX5_refuses_18 ?_ (sx_out G (fun z hz => (hxt z hz).elim))
  exact s_ireturn G dX5_refuses_21
set_option maxHeartbeats 4000000 in
theorem mX5_refuses {l : Launch} {D : DE} {s0 : State} {E : Nat → Value} (EN : EV l D s0 E) : rMet l D s0 yX5_refuses (ws_ yX5_refuses cX5_refuses 3 (Option.some Jvm.ClassFile.FieldType.int)) 3 85 (wX5_refuses E) := by
  refine body_met (fun _ => false) EN.kn (fun w h => h) (by decide +kernel) rfl (fun av h Q hw => ?_) ?_
  · unfold wX5_refuses at hw
    split at hw
    · exact Nat.le_of_ble_eq_true rfl
    · exact hw.elim
  · intro p e s m below meth c av h Q hxt G hw
    unfold wX5_refuses at hw
    split at hw
    · exact tX5_refuses_0 EN G ⟨rfl, rfl⟩ rfl hxt _ _ _ hw
    · exact hw.elim
/-! ChantRulesModel.tellsArc(IIIIII)I (X5_tellsArc) -/
theorem nmk_255 : nm_ok yX5_refuses 2 := ⟨by decide +kernel, by decide +kernel, by decide +kernel⟩
theorem nmk_256 : nm_ok yX5_like 5 := ⟨by decide +kernel, by decide +kernel, by decide +kernel⟩
theorem nmk_257 : nm_ok yX5_isState 2 := ⟨by decide +kernel, by decide +kernel, by decide +kernel⟩
def bX5_tellsArc_189 (E : Nat → Value) (Q : Rs → HS → Prop) : Ct :=
  o_dup2 <|
  o_ald [100] <|
  o_push (.int 1) <|
  o_iadd <|
  o_ast [(100, .int)] <|
  o_aload 0 <|
  o_getf [8] 7 <|
  o_push (.int 14) <|
  o_dup2 <|
  o_ald [100] <|
  o_push (.int 1) <|
  o_iadd <|
  o_ast [(100, .int)] <|
  o_iload 8 <|
  o_ireturn .int Q
def bX5_tellsArc_114 (E : Nat → Value) (Q : Rs → HS → Prop) : Ct :=
  o_aload 0 <|
  o_getf [8] 7 <|
  o_iload 1 <|
  o_iload 8 <|
  o_push (.int 0) <|
  o_call 3 (wX5_of E) (x_out Q) <|
  o_iload 2 <|
  o_ast [(100, .int)] <|
  o_aload 0 <|
  o_getf [8] 7 <|
  o_iload 1 <|
  o_iload 8 <|
  o_push (.int 1) <|
  o_call 3 (wX5_of E) (x_out Q) <|
  o_iload 3 <|
  o_ast [(100, .int)] <|
  o_aload 0 <|
  o_getf [8] 7 <|
  o_iload 1 <|
  o_iload 8 <|
  o_push (.int 2) <|
  o_call 3 (wX5_of E) (x_out Q) <|
  o_iload 4 <|
  o_ast [(100, .int)] <|
  o_aload 0 <|
  o_getf [8] 7 <|
  o_iload 1 <|
  o_iload 8 <|
  o_push (.int 3) <|
  o_call 3 (wX5_of E) (x_out Q) <|
  o_iload 5 <|
  o_ast [(100, .int)] <|
  o_aload 0 <|
  o_getf [8] 7 <|
  o_iload 1 <|
  o_iload 8 <|
  o_push (.int 4) <|
  o_call 3 (wX5_of E) (x_out Q) <|
  o_iload 6 <|
  o_ast [(100, .int)] <|
  o_aload 0 <|
  o_getf [8] 7 <|
  o_push (.int 2) <|
  o_iload 1 <|
  o_iadd <|
  (bX5_tellsArc_189 E Q)
def bX5_tellsArc_99 (E : Nat → Value) (Q : Rs → HS → Prop) : Ct :=
  o_iload 8 <|
  o_push (.int 12) <|
  o_icmpne (bX5_tellsArc_114 E Q) <|
  o_aload 0 <|
  o_push (.int 1) <|
  o_push (.int 12) <|
  o_callV [8] 3 (wX5_refuses E) (x_out Q) <|
  o_ireturn .int Q
def bX5_tellsArc_63 (E : Nat → Value) (Q : Rs → HS → Prop) : Ct :=
  o_aload 0 <|
  o_iload 1 <|
  o_iload 2 <|
  o_iload 3 <|
  o_iload 4 <|
  o_iload 5 <|
  o_callV [8] 6 (wX5_like E) (x_out Q) <|
  o_istore 7 <|
  o_aload 0 <|
  o_getf [8] 7 <|
  o_push (.int 2) <|
  o_iload 1 <|
  o_iadd <|
  o_ald [100] <|
  o_istore 8 <|
  o_iload 7 <|
  o_iflt (bX5_tellsArc_99 E Q) <|
  o_aload 0 <|
  o_push (.int 2) <|
  o_iload 7 <|
  o_callV [8] 3 (wX5_refuses E) (x_out Q) <|
  o_ireturn .int Q
def bX5_tellsArc_56 (E : Nat → Value) (Q : Rs → HS → Prop) : Ct :=
  o_aload 0 <|
  o_push (.int (-12)) <|
  o_callV [8] 2 (wX5_fail E) (x_out Q) <|
  o_ireturn .int Q
def bX5_tellsArc_25 (E : Nat → Value) (Q : Rs → HS → Prop) : Ct :=
  o_iload 4 <|
  o_push (.int 0) <|
  o_push (.int 4) <|
  o_call 3 (wX5_isIn E) (x_out Q) <|
  o_ifeq (bX5_tellsArc_56 E Q) <|
  o_iload 5 <|
  o_push (.int 0) <|
  o_push (.int 4) <|
  o_call 3 (wX5_isIn E) (x_out Q) <|
  o_ifeq (bX5_tellsArc_56 E Q) <|
  o_iload 6 <|
  o_push (.int 0) <|
  o_push (.int 9) <|
  o_call 3 (wX5_isIn E) (x_out Q) <|
  o_ifne (bX5_tellsArc_63 E Q) <|
  (bX5_tellsArc_56 E Q)
def bX5_tellsArc_18 (E : Nat → Value) (Q : Rs → HS → Prop) : Ct :=
  o_aload 0 <|
  o_push (.int (-11)) <|
  o_callV [8] 2 (wX5_fail E) (x_out Q) <|
  o_ireturn .int Q
def bX5_tellsArc_0 (E : Nat → Value) (Q : Rs → HS → Prop) : Ct :=
  o_aload 0 <|
  o_iload 1 <|
  o_iload 2 <|
  o_callV [8] 3 (wX5_isState E) (x_out Q) <|
  o_ifeq (bX5_tellsArc_18 E Q) <|
  o_aload 0 <|
  o_iload 1 <|
  o_iload 3 <|
  o_callV [8] 3 (wX5_isState E) (x_out Q) <|
  o_ifne (bX5_tellsArc_25 E Q) <|
  (bX5_tellsArc_18 E Q)
def wX5_tellsArc (E : Nat → Value) : Wp := fun av h Q => match av with
  | [a0, a1, a2, a3, a4, a5, a6] => bX5_tellsArc_0 E Q [a0, a1, a2, a3, a4, a5, a6, jk, jk] [] h
  | _ => False
set_option maxHeartbeats 4000000 in
theorem tX5_tellsArc_189 {x : CX} {E : Nat → Value} {Q : Rs → HS → Prop} (EN : EX x E) (G : Gd x cX5_tellsArc "ChantRulesModel" yX5_tellsArc 9 (Option.some Jvm.ClassFile.FieldType.int) Q) (hF : x.1.2.2.2.frames = 5 ∧ x.1.2.2.2.locals = 128) (hC : x.2.2.2.2.2 = (fun _ => false)) (hxt : (∀ z ∈ x.2.2.1.2.1.exceptionTable.toList, False)) : Snd x 189 (bX5_tellsArc_189 E Q) := by
  unfold bX5_tellsArc_189
  refine s_dup2 G.b dX5_tellsArc_189 ?_
  refine s_iald G.b G.kn dX5_tellsArc_190 ?_
  refine s_iconst (by decide) G.b dX5_tellsArc_191 ?_
  refine s_iadd G.b dX5_tellsArc_192 ?_
  refine s_iast G.b G.kn dX5_tellsArc_193 ?_
  refine s_aload_n rfl G.b dX5_tellsArc_194 ?_
  refine s_getf G.b G.ow G.kn (G.hts _ q1910) (fun _ h => h) fa_73 dX5_tellsArc_195 ?_
  refine s_bipush (by decide) G.b dX5_tellsArc_198 ?_
  refine s_dup2 G.b dX5_tellsArc_200 ?_
  refine s_iald G.b G.kn dX5_tellsArc_201 ?_
  refine s_iconst (by decide) G.b dX5_tellsArc_202 ?_
  refine s_iadd G.b dX5_tellsArc_203 ?_
  refine s_iast G.b G.kn dX5_tellsArc_204 ?_
  refine s_iload G.b dX5_tellsArc_205 ?_
  exact s_ireturn G dX5_tellsArc_207
set_option maxHeartbeats 4000000 in
theorem tX5_tellsArc_114 {x : CX} {E : Nat → Value} {Q : Rs → HS → Prop} (EN : EX x E) (G : Gd x cX5_tellsArc "ChantRulesModel" yX5_tellsArc 9 (Option.some Jvm.ClassFile.FieldType.int) Q) (hF : x.1.2.2.2.frames = 5 ∧ x.1.2.2.2.locals = 128) (hC : x.2.2.2.2.2 = (fun _ => false)) (hxt : (∀ z ∈ x.2.2.1.2.1.exceptionTable.toList, False)) : Snd x 114 (bX5_tellsArc_114 E Q) := by
  unfold bX5_tellsArc_114
  refine s_aload_n rfl G.b dX5_tellsArc_114 ?_
  refine s_getf G.b G.ow G.kn (G.hts _ q1910) (fun _ h => h) fa_73 dX5_tellsArc_115 ?_
  refine s_iload_n rfl G.b dX5_tellsArc_118 ?_
  refine s_iload G.b dX5_tellsArc_119 ?_
  refine s_iconst (by decide) G.b dX5_tellsArc_121 ?_
  refine s_callS G (mX5_of EN) q2079 q2080 q90 q2081 nmk_248 (rm_of hF (Nat.le_of_ble_eq_true rfl) (Nat.le_of_ble_eq_true rfl)) dX5_tellsArc_122 ?_ (sx_out G (fun z hz => (hxt z hz).elim))
  refine s_iload_n rfl G.b dX5_tellsArc_125 ?_
  refine s_iast G.b G.kn dX5_tellsArc_126 ?_
  refine s_aload_n rfl G.b dX5_tellsArc_127 ?_
  refine s_getf G.b G.ow G.kn (G.hts _ q1910) (fun _ h => h) fa_73 dX5_tellsArc_128 ?_
  refine s_iload_n rfl G.b dX5_tellsArc_131 ?_
  refine s_iload G.b dX5_tellsArc_132 ?_
  refine s_iconst (by decide) G.b dX5_tellsArc_134 ?_
  refine s_callS G (mX5_of EN) q2079 q2080 q90 q2081 nmk_248 (rm_of hF (Nat.le_of_ble_eq_true rfl) (Nat.le_of_ble_eq_true rfl)) dX5_tellsArc_135 ?_ (sx_out G (fun z hz => (hxt z hz).elim))
  refine s_iload_n rfl G.b dX5_tellsArc_138 ?_
  refine s_iast G.b G.kn dX5_tellsArc_139 ?_
  refine s_aload_n rfl G.b dX5_tellsArc_140 ?_
  refine s_getf G.b G.ow G.kn (G.hts _ q1910) (fun _ h => h) fa_73 dX5_tellsArc_141 ?_
  refine s_iload_n rfl G.b dX5_tellsArc_144 ?_
  refine s_iload G.b dX5_tellsArc_145 ?_
  refine s_iconst (by decide) G.b dX5_tellsArc_147 ?_
  refine s_callS G (mX5_of EN) q2079 q2080 q90 q2081 nmk_248 (rm_of hF (Nat.le_of_ble_eq_true rfl) (Nat.le_of_ble_eq_true rfl)) dX5_tellsArc_148 ?_ (sx_out G (fun z hz => (hxt z hz).elim))
  refine s_iload G.b dX5_tellsArc_151 ?_
  refine s_iast G.b G.kn dX5_tellsArc_153 ?_
  refine s_aload_n rfl G.b dX5_tellsArc_154 ?_
  refine s_getf G.b G.ow G.kn (G.hts _ q1910) (fun _ h => h) fa_73 dX5_tellsArc_155 ?_
  refine s_iload_n rfl G.b dX5_tellsArc_158 ?_
  refine s_iload G.b dX5_tellsArc_159 ?_
  refine s_iconst (by decide) G.b dX5_tellsArc_161 ?_
  refine s_callS G (mX5_of EN) q2079 q2080 q90 q2081 nmk_248 (rm_of hF (Nat.le_of_ble_eq_true rfl) (Nat.le_of_ble_eq_true rfl)) dX5_tellsArc_162 ?_ (sx_out G (fun z hz => (hxt z hz).elim))
  refine s_iload G.b dX5_tellsArc_165 ?_
  refine s_iast G.b G.kn dX5_tellsArc_167 ?_
  refine s_aload_n rfl G.b dX5_tellsArc_168 ?_
  refine s_getf G.b G.ow G.kn (G.hts _ q1910) (fun _ h => h) fa_73 dX5_tellsArc_169 ?_
  refine s_iload_n rfl G.b dX5_tellsArc_172 ?_
  refine s_iload G.b dX5_tellsArc_173 ?_
  refine s_iconst (by decide) G.b dX5_tellsArc_175 ?_
  refine s_callS G (mX5_of EN) q2079 q2080 q90 q2081 nmk_248 (rm_of hF (Nat.le_of_ble_eq_true rfl) (Nat.le_of_ble_eq_true rfl)) dX5_tellsArc_176 ?_ (sx_out G (fun z hz => (hxt z hz).elim))
  refine s_iload G.b dX5_tellsArc_179 ?_
  refine s_iast G.b G.kn dX5_tellsArc_181 ?_
  refine s_aload_n rfl G.b dX5_tellsArc_182 ?_
  refine s_getf G.b G.ow G.kn (G.hts _ q1910) (fun _ h => h) fa_73 dX5_tellsArc_183 ?_
  refine s_iconst (by decide) G.b dX5_tellsArc_186 ?_
  refine s_iload_n rfl G.b dX5_tellsArc_187 ?_
  refine s_iadd G.b dX5_tellsArc_188 ?_
  exact (tX5_tellsArc_189 EN G hF hC hxt)
set_option maxHeartbeats 4000000 in
theorem tX5_tellsArc_99 {x : CX} {E : Nat → Value} {Q : Rs → HS → Prop} (EN : EX x E) (G : Gd x cX5_tellsArc "ChantRulesModel" yX5_tellsArc 9 (Option.some Jvm.ClassFile.FieldType.int) Q) (hF : x.1.2.2.2.frames = 5 ∧ x.1.2.2.2.locals = 128) (hC : x.2.2.2.2.2 = (fun _ => false)) (hxt : (∀ z ∈ x.2.2.1.2.1.exceptionTable.toList, False)) : Snd x 99 (bX5_tellsArc_99 E Q) := by
  unfold bX5_tellsArc_99
  refine s_iload G.b dX5_tellsArc_99 ?_
  refine s_bipush (by decide) G.b dX5_tellsArc_101 ?_
  refine s_icmpne (tgt := 114) G.b dX5_tellsArc_103 (by decide) (tX5_tellsArc_114 EN G hF hC hxt) ?_
  refine s_aload_n rfl G.b dX5_tellsArc_106 ?_
  refine s_iconst (by decide) G.b dX5_tellsArc_107 ?_
  refine s_bipush (by decide) G.b dX5_tellsArc_108 ?_
  refine s_callV G (mX5_refuses EN) q2040 q2042 (sel_cons (r := (RX5, TX5, 37)) (by decide) rfl qs35 (sel_nil)) q90 q2043 nmk_255 (rm_of hF (Nat.le_of_ble_eq_true rfl) (Nat.le_of_ble_eq_true rfl)) dX5_tellsArc_110 ?_ (sx_out G (fun z hz => (hxt z hz).elim))
  exact s_ireturn G dX5_tellsArc_113
set_option maxHeartbeats 4000000 in
theorem tX5_tellsArc_63 {x : CX} {E : Nat → Value} {Q : Rs → HS → Prop} (EN : EX x E) (G : Gd x cX5_tellsArc "ChantRulesModel" yX5_tellsArc 9 (Option.some Jvm.ClassFile.FieldType.int) Q) (hF : x.1.2.2.2.frames = 5 ∧ x.1.2.2.2.locals = 128) (hC : x.2.2.2.2.2 = (fun _ => false)) (hxt : (∀ z ∈ x.2.2.1.2.1.exceptionTable.toList, False)) : Snd x 63 (bX5_tellsArc_63 E Q) := by
  unfold bX5_tellsArc_63
  refine s_aload_n rfl G.b dX5_tellsArc_63 ?_
  refine s_iload_n rfl G.b dX5_tellsArc_64 ?_
  refine s_iload_n rfl G.b dX5_tellsArc_65 ?_
  refine s_iload_n rfl G.b dX5_tellsArc_66 ?_
  refine s_iload G.b dX5_tellsArc_67 ?_
  refine s_iload G.b dX5_tellsArc_69 ?_
  refine s_callV G (mX5_like EN) q2075 q2077 (sel_cons (r := (RX5, TX5, 37)) (by decide) rfl qs41 (sel_nil)) q90 q2078 nmk_256 (rm_of hF (Nat.le_of_ble_eq_true rfl) (Nat.le_of_ble_eq_true rfl)) dX5_tellsArc_71 ?_ (sx_out G (fun z hz => (hxt z hz).elim))
  refine s_istore G.b (by rw [G.nl]; decide) (fun _ _ => by rw [hC]) dX5_tellsArc_74 ?_
  refine s_aload_n rfl G.b dX5_tellsArc_76 ?_
  refine s_getf G.b G.ow G.kn (G.hts _ q1910) (fun _ h => h) fa_73 dX5_tellsArc_77 ?_
  refine s_iconst (by decide) G.b dX5_tellsArc_80 ?_
  refine s_iload_n rfl G.b dX5_tellsArc_81 ?_
  refine s_iadd G.b dX5_tellsArc_82 ?_
  refine s_iald G.b G.kn dX5_tellsArc_83 ?_
  refine s_istore G.b (by rw [G.nl]; decide) (fun _ _ => by rw [hC]) dX5_tellsArc_84 ?_
  refine s_iload G.b dX5_tellsArc_86 ?_
  refine s_iflt (tgt := 99) G.b dX5_tellsArc_88 (by decide) (tX5_tellsArc_99 EN G hF hC hxt) ?_
  refine s_aload_n rfl G.b dX5_tellsArc_91 ?_
  refine s_iconst (by decide) G.b dX5_tellsArc_92 ?_
  refine s_iload G.b dX5_tellsArc_93 ?_
  refine s_callV G (mX5_refuses EN) q2040 q2042 (sel_cons (r := (RX5, TX5, 37)) (by decide) rfl qs35 (sel_nil)) q90 q2043 nmk_255 (rm_of hF (Nat.le_of_ble_eq_true rfl) (Nat.le_of_ble_eq_true rfl)) dX5_tellsArc_95 ?_ (sx_out G (fun z hz => (hxt z hz).elim))
  exact s_ireturn G dX5_tellsArc_98
set_option maxHeartbeats 4000000 in
theorem tX5_tellsArc_56 {x : CX} {E : Nat → Value} {Q : Rs → HS → Prop} (EN : EX x E) (G : Gd x cX5_tellsArc "ChantRulesModel" yX5_tellsArc 9 (Option.some Jvm.ClassFile.FieldType.int) Q) (hF : x.1.2.2.2.frames = 5 ∧ x.1.2.2.2.locals = 128) (hC : x.2.2.2.2.2 = (fun _ => false)) (hxt : (∀ z ∈ x.2.2.1.2.1.exceptionTable.toList, False)) : Snd x 56 (bX5_tellsArc_56 E Q) := by
  unfold bX5_tellsArc_56
  refine s_aload_n rfl G.b dX5_tellsArc_56 ?_
  refine s_bipush (by decide) G.b dX5_tellsArc_57 ?_
  refine s_callV G (mX5_fail EN) q2036 q2038 (sel_cons (r := (RX5, TX5, 37)) (by decide) rfl qs34 (sel_nil)) q90 q2039 nmk_254 (rm_of hF (Nat.le_of_ble_eq_true rfl) (Nat.le_of_ble_eq_true rfl)) dX5_tellsArc_59 ?_ (sx_out G (fun z hz => (hxt z hz).elim))
  exact s_ireturn G dX5_tellsArc_62
set_option maxHeartbeats 4000000 in
theorem tX5_tellsArc_25 {x : CX} {E : Nat → Value} {Q : Rs → HS → Prop} (EN : EX x E) (G : Gd x cX5_tellsArc "ChantRulesModel" yX5_tellsArc 9 (Option.some Jvm.ClassFile.FieldType.int) Q) (hF : x.1.2.2.2.frames = 5 ∧ x.1.2.2.2.locals = 128) (hC : x.2.2.2.2.2 = (fun _ => false)) (hxt : (∀ z ∈ x.2.2.1.2.1.exceptionTable.toList, False)) : Snd x 25 (bX5_tellsArc_25 E Q) := by
  unfold bX5_tellsArc_25
  refine s_iload G.b dX5_tellsArc_25 ?_
  refine s_iconst (by decide) G.b dX5_tellsArc_27 ?_
  refine s_iconst (by decide) G.b dX5_tellsArc_28 ?_
  refine s_callS G (mX5_isIn EN) q2033 q2034 q90 q2035 nmk_251 (rm_of hF (Nat.le_of_ble_eq_true rfl) (Nat.le_of_ble_eq_true rfl)) dX5_tellsArc_29 ?_ (sx_out G (fun z hz => (hxt z hz).elim))
  refine s_ifeq (tgt := 56) G.b dX5_tellsArc_32 (by decide) (tX5_tellsArc_56 EN G hF hC hxt) ?_
  refine s_iload G.b dX5_tellsArc_35 ?_
  refine s_iconst (by decide) G.b dX5_tellsArc_37 ?_
  refine s_iconst (by decide) G.b dX5_tellsArc_38 ?_
  refine s_callS G (mX5_isIn EN) q2033 q2034 q90 q2035 nmk_251 (rm_of hF (Nat.le_of_ble_eq_true rfl) (Nat.le_of_ble_eq_true rfl)) dX5_tellsArc_39 ?_ (sx_out G (fun z hz => (hxt z hz).elim))
  refine s_ifeq (tgt := 56) G.b dX5_tellsArc_42 (by decide) (tX5_tellsArc_56 EN G hF hC hxt) ?_
  refine s_iload G.b dX5_tellsArc_45 ?_
  refine s_iconst (by decide) G.b dX5_tellsArc_47 ?_
  refine s_bipush (by decide) G.b dX5_tellsArc_48 ?_
  refine s_callS G (mX5_isIn EN) q2033 q2034 q90 q2035 nmk_251 (rm_of hF (Nat.le_of_ble_eq_true rfl) (Nat.le_of_ble_eq_true rfl)) dX5_tellsArc_50 ?_ (sx_out G (fun z hz => (hxt z hz).elim))
  refine s_ifne (tgt := 63) G.b dX5_tellsArc_53 (by decide) (tX5_tellsArc_63 EN G hF hC hxt) ?_
  exact (tX5_tellsArc_56 EN G hF hC hxt)
set_option maxHeartbeats 4000000 in
theorem tX5_tellsArc_18 {x : CX} {E : Nat → Value} {Q : Rs → HS → Prop} (EN : EX x E) (G : Gd x cX5_tellsArc "ChantRulesModel" yX5_tellsArc 9 (Option.some Jvm.ClassFile.FieldType.int) Q) (hF : x.1.2.2.2.frames = 5 ∧ x.1.2.2.2.locals = 128) (hC : x.2.2.2.2.2 = (fun _ => false)) (hxt : (∀ z ∈ x.2.2.1.2.1.exceptionTable.toList, False)) : Snd x 18 (bX5_tellsArc_18 E Q) := by
  unfold bX5_tellsArc_18
  refine s_aload_n rfl G.b dX5_tellsArc_18 ?_
  refine s_bipush (by decide) G.b dX5_tellsArc_19 ?_
  refine s_callV G (mX5_fail EN) q2036 q2038 (sel_cons (r := (RX5, TX5, 37)) (by decide) rfl qs34 (sel_nil)) q90 q2039 nmk_254 (rm_of hF (Nat.le_of_ble_eq_true rfl) (Nat.le_of_ble_eq_true rfl)) dX5_tellsArc_21 ?_ (sx_out G (fun z hz => (hxt z hz).elim))
  exact s_ireturn G dX5_tellsArc_24
set_option maxHeartbeats 4000000 in
theorem tX5_tellsArc_0 {x : CX} {E : Nat → Value} {Q : Rs → HS → Prop} (EN : EX x E) (G : Gd x cX5_tellsArc "ChantRulesModel" yX5_tellsArc 9 (Option.some Jvm.ClassFile.FieldType.int) Q) (hF : x.1.2.2.2.frames = 5 ∧ x.1.2.2.2.locals = 128) (hC : x.2.2.2.2.2 = (fun _ => false)) (hxt : (∀ z ∈ x.2.2.1.2.1.exceptionTable.toList, False)) : Snd x 0 (bX5_tellsArc_0 E Q) := by
  unfold bX5_tellsArc_0
  refine s_aload_n rfl G.b dX5_tellsArc_0 ?_
  refine s_iload_n rfl G.b dX5_tellsArc_1 ?_
  refine s_iload_n rfl G.b dX5_tellsArc_2 ?_
  refine s_callV G (mX5_isState EN) q2059 q2061 (sel_cons (r := (RX5, TX5, 37)) (by decide) rfl qs38 (sel_nil)) q90 q2062 nmk_257 (rm_of hF (Nat.le_of_ble_eq_true rfl) (Nat.le_of_ble_eq_true rfl)) dX5_tellsArc_3 ?_ (sx_out G (fun z hz => (hxt z hz).elim))
  refine s_ifeq (tgt := 18) G.b dX5_tellsArc_6 (by decide) (tX5_tellsArc_18 EN G hF hC hxt) ?_
  refine s_aload_n rfl G.b dX5_tellsArc_9 ?_
  refine s_iload_n rfl G.b dX5_tellsArc_10 ?_
  refine s_iload_n rfl G.b dX5_tellsArc_11 ?_
  refine s_callV G (mX5_isState EN) q2059 q2061 (sel_cons (r := (RX5, TX5, 37)) (by decide) rfl qs38 (sel_nil)) q90 q2062 nmk_257 (rm_of hF (Nat.le_of_ble_eq_true rfl) (Nat.le_of_ble_eq_true rfl)) dX5_tellsArc_12 ?_ (sx_out G (fun z hz => (hxt z hz).elim))
  refine s_ifne (tgt := 25) G.b dX5_tellsArc_15 (by decide) (tX5_tellsArc_25 EN G hF hC hxt) ?_
  exact (tX5_tellsArc_18 EN G hF hC hxt)
set_option maxHeartbeats 4000000 in
theorem mX5_tellsArc {l : Launch} {D : DE} {s0 : State} {E : Nat → Value} (EN : EV l D s0 E) : rMet l D s0 yX5_tellsArc (ws_ yX5_tellsArc cX5_tellsArc 9 (Option.some Jvm.ClassFile.FieldType.int)) 5 128 (wX5_tellsArc E) := by
  refine body_met (fun _ => false) EN.kn (fun w h => h) (by decide +kernel) rfl (fun av h Q hw => ?_) ?_
  · unfold wX5_tellsArc at hw
    split at hw
    · exact Nat.le_of_ble_eq_true rfl
    · exact hw.elim
  · intro p e s m below meth c av h Q hxt G hw
    unfold wX5_tellsArc at hw
    split at hw
    · exact tX5_tellsArc_0 EN G ⟨rfl, rfl⟩ rfl hxt _ _ _ hw
    · exact hw.elim
/-! ChantRulesModel.arc(IIIIII)I (X5_arc) -/
theorem nmk_258 : nm_ok yX5_begins 0 := ⟨by decide +kernel, by decide +kernel, by decide +kernel⟩
theorem nmk_259 : nm_ok yX5_tellsArc 6 := ⟨by decide +kernel, by decide +kernel, by decide +kernel⟩
theorem nmk_260 : nm_ok yX5_ends 1 := ⟨by decide +kernel, by decide +kernel, by decide +kernel⟩
def bX5_arc_0 (E : Nat → Value) (Q : Rs → HS → Prop) : Ct :=
  o_aload 0 <|
  o_callV [8] 1 (wX5_begins E) (x_out Q) <|
  o_aload 0 <|
  o_aload 0 <|
  o_iload 1 <|
  o_iload 2 <|
  o_iload 3 <|
  o_iload 4 <|
  o_iload 5 <|
  o_iload 6 <|
  o_callV [8] 7 (wX5_tellsArc E) (x_out Q) <|
  o_callV [8] 2 (wX5_ends E) (x_out Q) <|
  o_ireturn .int Q
def wX5_arc (E : Nat → Value) : Wp := fun av h Q => match av with
  | [a0, a1, a2, a3, a4, a5, a6] => bX5_arc_0 E Q [a0, a1, a2, a3, a4, a5, a6] [] h
  | _ => False
set_option maxHeartbeats 4000000 in
theorem tX5_arc_0 {x : CX} {E : Nat → Value} {Q : Rs → HS → Prop} (EN : EX x E) (G : Gd x cX5_arc "ChantRulesModel" yX5_arc 7 (Option.some Jvm.ClassFile.FieldType.int) Q) (hF : x.1.2.2.2.frames = 6 ∧ x.1.2.2.2.locals = 156) (hC : x.2.2.2.2.2 = (fun _ => false)) (hxt : (∀ z ∈ x.2.2.1.2.1.exceptionTable.toList, False)) : Snd x 0 (bX5_arc_0 E Q) := by
  unfold bX5_arc_0
  refine s_aload_n rfl G.b dX5_arc_0 ?_
  refine s_callV G (mX5_begins EN) q2019 q2021 (sel_cons (r := (RX5, TX5, 37)) (by decide) rfl qs32 (sel_nil)) q90 q2022 nmk_258 (rm_of hF (Nat.le_of_ble_eq_true rfl) (Nat.le_of_ble_eq_true rfl)) dX5_arc_1 ?_ (sx_out G (fun z hz => (hxt z hz).elim))
  refine s_aload_n rfl G.b dX5_arc_4 ?_
  refine s_aload_n rfl G.b dX5_arc_5 ?_
  refine s_iload_n rfl G.b dX5_arc_6 ?_
  refine s_iload_n rfl G.b dX5_arc_7 ?_
  refine s_iload_n rfl G.b dX5_arc_8 ?_
  refine s_iload G.b dX5_arc_9 ?_
  refine s_iload G.b dX5_arc_11 ?_
  refine s_iload G.b dX5_arc_13 ?_
  refine s_callV G (mX5_tellsArc EN) q2071 q2073 (sel_cons (r := (RX5, TX5, 37)) (by decide) rfl qs40 (sel_nil)) q90 q2074 nmk_259 (rm_of hF (Nat.le_of_ble_eq_true rfl) (Nat.le_of_ble_eq_true rfl)) dX5_arc_15 ?_ (sx_out G (fun z hz => (hxt z hz).elim))
  refine s_callV G (mX5_ends EN) q2047 q2049 (sel_cons (r := (RX5, TX5, 37)) (by decide) rfl qs36 (sel_nil)) q90 q2050 nmk_260 (rm_of hF (Nat.le_of_ble_eq_true rfl) (Nat.le_of_ble_eq_true rfl)) dX5_arc_18 ?_ (sx_out G (fun z hz => (hxt z hz).elim))
  exact s_ireturn G dX5_arc_21
set_option maxHeartbeats 4000000 in
theorem mX5_arc {l : Launch} {D : DE} {s0 : State} {E : Nat → Value} (EN : EV l D s0 E) : rMet l D s0 yX5_arc (ws_ yX5_arc cX5_arc 7 (Option.some Jvm.ClassFile.FieldType.int)) 6 156 (wX5_arc E) := by
  refine body_met (fun _ => false) EN.kn (fun w h => h) (by decide +kernel) rfl (fun av h Q hw => ?_) ?_
  · unfold wX5_arc at hw
    split at hw
    · exact Nat.le_of_ble_eq_true rfl
    · exact hw.elim
  · intro p e s m below meth c av h Q hxt G hw
    unfold wX5_arc at hw
    split at hw
    · exact tX5_arc_0 EN G ⟨rfl, rfl⟩ rfl hxt _ _ _ hw
    · exact hw.elim
/-! ChantRulesModel.isArc(II)Z (X5_isArc) -/
def bX5_isArc_30 (E : Nat → Value) (Q : Rs → HS → Prop) : Ct :=
  o_ireturn .boolean Q
def bX5_isArc_29 (E : Nat → Value) (Q : Rs → HS → Prop) : Ct :=
  o_push (.int 0) <|
  (bX5_isArc_30 E Q)
def bX5_isArc_0 (E : Nat → Value) (Q : Rs → HS → Prop) : Ct :=
  o_iload 1 <|
  o_call 1 (wX5_isRule E) (x_out Q) <|
  o_ifeq (bX5_isArc_29 E Q) <|
  o_iload 2 <|
  o_push (.int 0) <|
  o_aload 0 <|
  o_getf [8] 7 <|
  o_push (.int 2) <|
  o_iload 1 <|
  o_iadd <|
  o_ald [100] <|
  o_push (.int 1) <|
  o_isub <|
  o_call 3 (wX5_isIn E) (x_out Q) <|
  o_ifeq (bX5_isArc_29 E Q) <|
  o_push (.int 1) <|
  (bX5_isArc_30 E Q)
def wX5_isArc (E : Nat → Value) : Wp := fun av h Q => match av with
  | [a0, a1, a2] => bX5_isArc_0 E Q [a0, a1, a2] [] h
  | _ => False
set_option maxHeartbeats 4000000 in
theorem tX5_isArc_30 {x : CX} {E : Nat → Value} {Q : Rs → HS → Prop} (EN : EX x E) (G : Gd x cX5_isArc "ChantRulesModel" yX5_isArc 3 (Option.some Jvm.ClassFile.FieldType.boolean) Q) (hF : x.1.2.2.2.frames = 4 ∧ x.1.2.2.2.locals = 106) (hC : x.2.2.2.2.2 = (fun _ => false)) (hxt : (∀ z ∈ x.2.2.1.2.1.exceptionTable.toList, False)) : Snd x 30 (bX5_isArc_30 E Q) := by
  unfold bX5_isArc_30
  exact s_ireturn G dX5_isArc_30
set_option maxHeartbeats 4000000 in
theorem tX5_isArc_29 {x : CX} {E : Nat → Value} {Q : Rs → HS → Prop} (EN : EX x E) (G : Gd x cX5_isArc "ChantRulesModel" yX5_isArc 3 (Option.some Jvm.ClassFile.FieldType.boolean) Q) (hF : x.1.2.2.2.frames = 4 ∧ x.1.2.2.2.locals = 106) (hC : x.2.2.2.2.2 = (fun _ => false)) (hxt : (∀ z ∈ x.2.2.1.2.1.exceptionTable.toList, False)) : Snd x 29 (bX5_isArc_29 E Q) := by
  unfold bX5_isArc_29
  refine s_iconst (by decide) G.b dX5_isArc_29 ?_
  exact (tX5_isArc_30 EN G hF hC hxt)
set_option maxHeartbeats 4000000 in
theorem tX5_isArc_0 {x : CX} {E : Nat → Value} {Q : Rs → HS → Prop} (EN : EX x E) (G : Gd x cX5_isArc "ChantRulesModel" yX5_isArc 3 (Option.some Jvm.ClassFile.FieldType.boolean) Q) (hF : x.1.2.2.2.frames = 4 ∧ x.1.2.2.2.locals = 106) (hC : x.2.2.2.2.2 = (fun _ => false)) (hxt : (∀ z ∈ x.2.2.1.2.1.exceptionTable.toList, False)) : Snd x 0 (bX5_isArc_0 E Q) := by
  unfold bX5_isArc_0
  refine s_iload_n rfl G.b dX5_isArc_0 ?_
  refine s_callS G (mX5_isRule EN) q2030 q2031 q90 q2032 nmk_253 (rm_of hF (Nat.le_of_ble_eq_true rfl) (Nat.le_of_ble_eq_true rfl)) dX5_isArc_1 ?_ (sx_out G (fun z hz => (hxt z hz).elim))
  refine s_ifeq (tgt := 29) G.b dX5_isArc_4 (by decide) (tX5_isArc_29 EN G hF hC hxt) ?_
  refine s_iload_n rfl G.b dX5_isArc_7 ?_
  refine s_iconst (by decide) G.b dX5_isArc_8 ?_
  refine s_aload_n rfl G.b dX5_isArc_9 ?_
  refine s_getf G.b G.ow G.kn (G.hts _ q1910) (fun _ h => h) fa_73 dX5_isArc_10 ?_
  refine s_iconst (by decide) G.b dX5_isArc_13 ?_
  refine s_iload_n rfl G.b dX5_isArc_14 ?_
  refine s_iadd G.b dX5_isArc_15 ?_
  refine s_iald G.b G.kn dX5_isArc_16 ?_
  refine s_iconst (by decide) G.b dX5_isArc_17 ?_
  refine s_isub G.b dX5_isArc_18 ?_
  refine s_callS G (mX5_isIn EN) q2033 q2034 q90 q2035 nmk_251 (rm_of hF (Nat.le_of_ble_eq_true rfl) (Nat.le_of_ble_eq_true rfl)) dX5_isArc_19 ?_ (sx_out G (fun z hz => (hxt z hz).elim))
  refine s_ifeq (tgt := 29) G.b dX5_isArc_22 (by decide) (tX5_isArc_29 EN G hF hC hxt) ?_
  refine s_iconst (by decide) G.b dX5_isArc_25 ?_
  exact s_goto (tgt := 30) G.b dX5_isArc_26 (by decide) (tX5_isArc_30 EN G hF hC hxt)
set_option maxHeartbeats 4000000 in
theorem mX5_isArc {l : Launch} {D : DE} {s0 : State} {E : Nat → Value} (EN : EV l D s0 E) : rMet l D s0 yX5_isArc (ws_ yX5_isArc cX5_isArc 3 (Option.some Jvm.ClassFile.FieldType.boolean)) 4 106 (wX5_isArc E) := by
  refine body_met (fun _ => false) EN.kn (fun w h => h) (by decide +kernel) rfl (fun av h Q hw => ?_) ?_
  · unfold wX5_isArc at hw
    split at hw
    · exact Nat.le_of_ble_eq_true rfl
    · exact hw.elim
  · intro p e s m below meth c av h Q hxt G hw
    unfold wX5_isArc at hw
    split at hw
    · exact tX5_isArc_0 EN G ⟨rfl, rfl⟩ rfl hxt _ _ _ hw
    · exact hw.elim
/-! ChantRulesModel.arcOf(III)I (X5_arcOf) -/
theorem nmk_261 : nm_ok yX5_isArc 2 := ⟨by decide +kernel, by decide +kernel, by decide +kernel⟩
def bX5_arcOf_39 (E : Nat → Value) (Q : Rs → HS → Prop) : Ct :=
  o_ireturn .int Q
def bX5_arcOf_37 (E : Nat → Value) (Q : Rs → HS → Prop) : Ct :=
  o_push (.int (-12)) <|
  (bX5_arcOf_39 E Q)
def bX5_arcOf_14 (E : Nat → Value) (Q : Rs → HS → Prop) : Ct :=
  o_iload 3 <|
  o_push (.int 0) <|
  o_push (.int 4) <|
  o_call 3 (wX5_isIn E) (x_out Q) <|
  o_ifeq (bX5_arcOf_37 E Q) <|
  o_aload 0 <|
  o_getf [8] 7 <|
  o_iload 1 <|
  o_iload 2 <|
  o_iload 3 <|
  o_call 3 (wX5_of E) (x_out Q) <|
  o_ald [100] <|
  (bX5_arcOf_39 E Q)
def bX5_arcOf_0 (E : Nat → Value) (Q : Rs → HS → Prop) : Ct :=
  o_aload 0 <|
  o_iload 1 <|
  o_iload 2 <|
  o_callV [8] 3 (wX5_isArc E) (x_out Q) <|
  o_ifne (bX5_arcOf_14 E Q) <|
  o_push (.int (-11)) <|
  (bX5_arcOf_39 E Q)
def wX5_arcOf (E : Nat → Value) : Wp := fun av h Q => match av with
  | [a0, a1, a2, a3] => bX5_arcOf_0 E Q [a0, a1, a2, a3] [] h
  | _ => False
set_option maxHeartbeats 4000000 in
theorem tX5_arcOf_39 {x : CX} {E : Nat → Value} {Q : Rs → HS → Prop} (EN : EX x E) (G : Gd x cX5_arcOf "ChantRulesModel" yX5_arcOf 4 (Option.some Jvm.ClassFile.FieldType.int) Q) (hF : x.1.2.2.2.frames = 5 ∧ x.1.2.2.2.locals = 128) (hC : x.2.2.2.2.2 = (fun _ => false)) (hxt : (∀ z ∈ x.2.2.1.2.1.exceptionTable.toList, False)) : Snd x 39 (bX5_arcOf_39 E Q) := by
  unfold bX5_arcOf_39
  exact s_ireturn G dX5_arcOf_39
set_option maxHeartbeats 4000000 in
theorem tX5_arcOf_37 {x : CX} {E : Nat → Value} {Q : Rs → HS → Prop} (EN : EX x E) (G : Gd x cX5_arcOf "ChantRulesModel" yX5_arcOf 4 (Option.some Jvm.ClassFile.FieldType.int) Q) (hF : x.1.2.2.2.frames = 5 ∧ x.1.2.2.2.locals = 128) (hC : x.2.2.2.2.2 = (fun _ => false)) (hxt : (∀ z ∈ x.2.2.1.2.1.exceptionTable.toList, False)) : Snd x 37 (bX5_arcOf_37 E Q) := by
  unfold bX5_arcOf_37
  refine s_bipush (by decide) G.b dX5_arcOf_37 ?_
  exact (tX5_arcOf_39 EN G hF hC hxt)
set_option maxHeartbeats 4000000 in
theorem tX5_arcOf_14 {x : CX} {E : Nat → Value} {Q : Rs → HS → Prop} (EN : EX x E) (G : Gd x cX5_arcOf "ChantRulesModel" yX5_arcOf 4 (Option.some Jvm.ClassFile.FieldType.int) Q) (hF : x.1.2.2.2.frames = 5 ∧ x.1.2.2.2.locals = 128) (hC : x.2.2.2.2.2 = (fun _ => false)) (hxt : (∀ z ∈ x.2.2.1.2.1.exceptionTable.toList, False)) : Snd x 14 (bX5_arcOf_14 E Q) := by
  unfold bX5_arcOf_14
  refine s_iload_n rfl G.b dX5_arcOf_14 ?_
  refine s_iconst (by decide) G.b dX5_arcOf_15 ?_
  refine s_iconst (by decide) G.b dX5_arcOf_16 ?_
  refine s_callS G (mX5_isIn EN) q2033 q2034 q90 q2035 nmk_251 (rm_of hF (Nat.le_of_ble_eq_true rfl) (Nat.le_of_ble_eq_true rfl)) dX5_arcOf_17 ?_ (sx_out G (fun z hz => (hxt z hz).elim))
  refine s_ifeq (tgt := 37) G.b dX5_arcOf_20 (by decide) (tX5_arcOf_37 EN G hF hC hxt) ?_
  refine s_aload_n rfl G.b dX5_arcOf_23 ?_
  refine s_getf G.b G.ow G.kn (G.hts _ q1910) (fun _ h => h) fa_73 dX5_arcOf_24 ?_
  refine s_iload_n rfl G.b dX5_arcOf_27 ?_
  refine s_iload_n rfl G.b dX5_arcOf_28 ?_
  refine s_iload_n rfl G.b dX5_arcOf_29 ?_
  refine s_callS G (mX5_of EN) q2079 q2080 q90 q2081 nmk_248 (rm_of hF (Nat.le_of_ble_eq_true rfl) (Nat.le_of_ble_eq_true rfl)) dX5_arcOf_30 ?_ (sx_out G (fun z hz => (hxt z hz).elim))
  refine s_iald G.b G.kn dX5_arcOf_33 ?_
  exact s_goto (tgt := 39) G.b dX5_arcOf_34 (by decide) (tX5_arcOf_39 EN G hF hC hxt)
set_option maxHeartbeats 4000000 in
theorem tX5_arcOf_0 {x : CX} {E : Nat → Value} {Q : Rs → HS → Prop} (EN : EX x E) (G : Gd x cX5_arcOf "ChantRulesModel" yX5_arcOf 4 (Option.some Jvm.ClassFile.FieldType.int) Q) (hF : x.1.2.2.2.frames = 5 ∧ x.1.2.2.2.locals = 128) (hC : x.2.2.2.2.2 = (fun _ => false)) (hxt : (∀ z ∈ x.2.2.1.2.1.exceptionTable.toList, False)) : Snd x 0 (bX5_arcOf_0 E Q) := by
  unfold bX5_arcOf_0
  refine s_aload_n rfl G.b dX5_arcOf_0 ?_
  refine s_iload_n rfl G.b dX5_arcOf_1 ?_
  refine s_iload_n rfl G.b dX5_arcOf_2 ?_
  refine s_callV G (mX5_isArc EN) q2090 q2092 (sel_cons (r := (RX5, TX5, 37)) (by decide) rfl qs43 (sel_nil)) q90 q2093 nmk_261 (rm_of hF (Nat.le_of_ble_eq_true rfl) (Nat.le_of_ble_eq_true rfl)) dX5_arcOf_3 ?_ (sx_out G (fun z hz => (hxt z hz).elim))
  refine s_ifne (tgt := 14) G.b dX5_arcOf_6 (by decide) (tX5_arcOf_14 EN G hF hC hxt) ?_
  refine s_bipush (by decide) G.b dX5_arcOf_9 ?_
  exact s_goto (tgt := 39) G.b dX5_arcOf_11 (by decide) (tX5_arcOf_39 EN G hF hC hxt)
set_option maxHeartbeats 4000000 in
theorem mX5_arcOf {l : Launch} {D : DE} {s0 : State} {E : Nat → Value} (EN : EV l D s0 E) : rMet l D s0 yX5_arcOf (ws_ yX5_arcOf cX5_arcOf 4 (Option.some Jvm.ClassFile.FieldType.int)) 5 128 (wX5_arcOf E) := by
  refine body_met (fun _ => false) EN.kn (fun w h => h) (by decide +kernel) rfl (fun av h Q hw => ?_) ?_
  · unfold wX5_arcOf at hw
    split at hw
    · exact Nat.le_of_ble_eq_true rfl
    · exact hw.elim
  · intro p e s m below meth c av h Q hxt G hw
    unfold wX5_arcOf at hw
    split at hw
    · exact tX5_arcOf_0 EN G ⟨rfl, rfl⟩ rfl hxt _ _ _ hw
    · exact hw.elim
/-! ChantRulesModel.isWord()Z (X5_isWord) -/
def bX5_isWord_47 (E : Nat → Value) (Q : Rs → HS → Prop) (X17 : Ct) : Ct :=
  o_iload 1 <|
  o_ireturn .boolean Q
def bX5_isWord_17 (E : Nat → Value) (Q : Rs → HS → Prop) (X17 : Ct) : Ct :=
  o_iload 2 <|
  o_aload 0 <|
  o_getf [8] 26 <|
  o_icmpge (bX5_isWord_47 E Q X17) <|
  o_iload 1 <|
  o_aload 0 <|
  o_getf [8] 21 <|
  o_iload 2 <|
  o_ald [100] <|
  o_push (.int 97) <|
  o_push (.int 100) <|
  o_call 3 (wX5_isIn E) (x_out Q) <|
  o_iand <|
  o_istore 1 <|
  o_iinc 2 1 <|
  X17
def bX5_isWord_14 (E : Nat → Value) (Q : Rs → HS → Prop) (X17 : Ct) : Ct :=
  o_istore 1 <|
  o_push (.int 0) <|
  o_istore 2 <|
  X17
def bX5_isWord_13 (E : Nat → Value) (Q : Rs → HS → Prop) (X17 : Ct) : Ct :=
  o_push (.int 0) <|
  (bX5_isWord_14 E Q X17)
def bX5_isWord_0 (E : Nat → Value) (Q : Rs → HS → Prop) (X17 : Ct) : Ct :=
  o_aload 0 <|
  o_getf [8] 26 <|
  o_push (.int 8) <|
  o_icmpgt (bX5_isWord_13 E Q X17) <|
  o_push (.int 1) <|
  (bX5_isWord_14 E Q X17)
def wX5_isWord (E : Nat → Value) : Wp := fun av h Q => match av with
  | [a0] => ∀ X17 : Ct, (∀ ls st h, bX5_isWord_17 E Q X17 ls st h → X17 ls st h) → bX5_isWord_0 E Q X17 [a0, jk, jk] [] h
  | _ => False
set_option maxHeartbeats 4000000 in
theorem tX5_isWord_47 {x : CX} {E : Nat → Value} {Q : Rs → HS → Prop} {X17 : Ct} (EN : EX x E) (G : Gd x cX5_isWord "ChantRulesModel" yX5_isWord 3 (Option.some Jvm.ClassFile.FieldType.boolean) Q) (hF : x.1.2.2.2.frames = 3 ∧ x.1.2.2.2.locals = 86) (hC : x.2.2.2.2.2 = (fun _ => false)) (hxt : (∀ z ∈ x.2.2.1.2.1.exceptionTable.toList, False)) (h17 : Snd x 17 X17) : Snd x 47 (bX5_isWord_47 E Q X17) := by
  unfold bX5_isWord_47
  refine s_iload_n rfl G.b dX5_isWord_47 ?_
  exact s_ireturn G dX5_isWord_48
set_option maxHeartbeats 4000000 in
theorem tX5_isWord_17 {x : CX} {E : Nat → Value} {Q : Rs → HS → Prop} {X17 : Ct} (EN : EX x E) (G : Gd x cX5_isWord "ChantRulesModel" yX5_isWord 3 (Option.some Jvm.ClassFile.FieldType.boolean) Q) (hF : x.1.2.2.2.frames = 3 ∧ x.1.2.2.2.locals = 86) (hC : x.2.2.2.2.2 = (fun _ => false)) (hxt : (∀ z ∈ x.2.2.1.2.1.exceptionTable.toList, False)) (h17 : Snd x 17 X17) : Snd x 17 (bX5_isWord_17 E Q X17) := by
  unfold bX5_isWord_17
  refine s_iload_n rfl G.b dX5_isWord_17 ?_
  refine s_aload_n rfl G.b dX5_isWord_18 ?_
  refine s_getf G.b G.ow G.kn (G.hts _ q1929) (fun _ h => h) fa_94 dX5_isWord_19 ?_
  refine s_icmpge (tgt := 47) G.b dX5_isWord_22 (by decide) (tX5_isWord_47 EN G hF hC hxt h17) ?_
  refine s_iload_n rfl G.b dX5_isWord_25 ?_
  refine s_aload_n rfl G.b dX5_isWord_26 ?_
  refine s_getf G.b G.ow G.kn (G.hts _ q1924) (fun _ h => h) fa_76 dX5_isWord_27 ?_
  refine s_iload_n rfl G.b dX5_isWord_30 ?_
  refine s_iald G.b G.kn dX5_isWord_31 ?_
  refine s_bipush (by decide) G.b dX5_isWord_32 ?_
  refine s_bipush (by decide) G.b dX5_isWord_34 ?_
  refine s_callS G (mX5_isIn EN) q2033 q2034 q90 q2035 nmk_251 (rm_of hF (Nat.le_of_ble_eq_true rfl) (Nat.le_of_ble_eq_true rfl)) dX5_isWord_36 ?_ (sx_out G (fun z hz => (hxt z hz).elim))
  refine s_iand G.b dX5_isWord_39 ?_
  refine s_istore_n rfl G.b (by rw [G.nl]; decide) (fun _ _ => by rw [hC]) dX5_isWord_40 ?_
  refine s_iinc (by decide) G.b (by rw [G.nl]; decide) (fun _ _ => by rw [hC]) dX5_isWord_41 ?_
  exact s_goto (tgt := 17) G.b dX5_isWord_44 (by decide) h17
set_option maxHeartbeats 4000000 in
theorem tX5_isWord_14 {x : CX} {E : Nat → Value} {Q : Rs → HS → Prop} {X17 : Ct} (EN : EX x E) (G : Gd x cX5_isWord "ChantRulesModel" yX5_isWord 3 (Option.some Jvm.ClassFile.FieldType.boolean) Q) (hF : x.1.2.2.2.frames = 3 ∧ x.1.2.2.2.locals = 86) (hC : x.2.2.2.2.2 = (fun _ => false)) (hxt : (∀ z ∈ x.2.2.1.2.1.exceptionTable.toList, False)) (h17 : Snd x 17 X17) : Snd x 14 (bX5_isWord_14 E Q X17) := by
  unfold bX5_isWord_14
  refine s_istore_n rfl G.b (by rw [G.nl]; decide) (fun _ _ => by rw [hC]) dX5_isWord_14 ?_
  refine s_iconst (by decide) G.b dX5_isWord_15 ?_
  refine s_istore_n rfl G.b (by rw [G.nl]; decide) (fun _ _ => by rw [hC]) dX5_isWord_16 ?_
  exact h17
set_option maxHeartbeats 4000000 in
theorem tX5_isWord_13 {x : CX} {E : Nat → Value} {Q : Rs → HS → Prop} {X17 : Ct} (EN : EX x E) (G : Gd x cX5_isWord "ChantRulesModel" yX5_isWord 3 (Option.some Jvm.ClassFile.FieldType.boolean) Q) (hF : x.1.2.2.2.frames = 3 ∧ x.1.2.2.2.locals = 86) (hC : x.2.2.2.2.2 = (fun _ => false)) (hxt : (∀ z ∈ x.2.2.1.2.1.exceptionTable.toList, False)) (h17 : Snd x 17 X17) : Snd x 13 (bX5_isWord_13 E Q X17) := by
  unfold bX5_isWord_13
  refine s_iconst (by decide) G.b dX5_isWord_13 ?_
  exact (tX5_isWord_14 EN G hF hC hxt h17)
set_option maxHeartbeats 4000000 in
theorem tX5_isWord_0 {x : CX} {E : Nat → Value} {Q : Rs → HS → Prop} {X17 : Ct} (EN : EX x E) (G : Gd x cX5_isWord "ChantRulesModel" yX5_isWord 3 (Option.some Jvm.ClassFile.FieldType.boolean) Q) (hF : x.1.2.2.2.frames = 3 ∧ x.1.2.2.2.locals = 86) (hC : x.2.2.2.2.2 = (fun _ => false)) (hxt : (∀ z ∈ x.2.2.1.2.1.exceptionTable.toList, False)) (h17 : Snd x 17 X17) : Snd x 0 (bX5_isWord_0 E Q X17) := by
  unfold bX5_isWord_0
  refine s_aload_n rfl G.b dX5_isWord_0 ?_
  refine s_getf G.b G.ow G.kn (G.hts _ q1929) (fun _ h => h) fa_94 dX5_isWord_1 ?_
  refine s_bipush (by decide) G.b dX5_isWord_4 ?_
  refine s_icmpgt (tgt := 13) G.b dX5_isWord_6 (by decide) (tX5_isWord_13 EN G hF hC hxt h17) ?_
  refine s_iconst (by decide) G.b dX5_isWord_9 ?_
  exact s_goto (tgt := 14) G.b dX5_isWord_10 (by decide) (tX5_isWord_14 EN G hF hC hxt h17)
set_option maxHeartbeats 4000000 in
theorem mX5_isWord {l : Launch} {D : DE} {s0 : State} {E : Nat → Value} (EN : EV l D s0 E) : rMet l D s0 yX5_isWord (ws_ yX5_isWord cX5_isWord 3 (Option.some Jvm.ClassFile.FieldType.boolean)) 3 86 (wX5_isWord E) := by
  refine body_met (fun _ => false) EN.kn (fun w h => h) (by decide +kernel) rfl (fun av h Q hw => ?_) ?_
  · unfold wX5_isWord at hw
    split at hw
    · exact Nat.le_of_ble_eq_true rfl
    · exact hw.elim
  · intro p e s m below meth c av h Q hxt G hw
    unfold wX5_isWord at hw
    split at hw
    · exact tX5_isWord_0 EN G ⟨rfl, rfl⟩ rfl hxt (fun _ _ _ h => h) _ _ _ (hw (AW _ 17) (tX5_isWord_17 EN G ⟨rfl, rfl⟩ rfl hxt (fun _ _ _ h => h)))
    · exact hw.elim
/-! ChantRulesModel.lay(IIIII)V (X5_lay) -/
theorem fa_99 : fieldAt [8] 17 "ChantRulesModel" "many" "I" := fa_cons (r := (RX5, TX5, 37)) rfl (by decide) rfl rfl rfl (fa_nil)
def bX5_lay_0 (E : Nat → Value) (Q : Rs → HS → Prop) : Ct :=
  o_aload 0 <|
  o_getf [8] 11 <|
  o_aload 0 <|
  o_getf [8] 17 <|
  o_iload 1 <|
  o_ast [(100, .int)] <|
  o_aload 0 <|
  o_getf [8] 12 <|
  o_aload 0 <|
  o_getf [8] 17 <|
  o_iload 2 <|
  o_ast [(100, .int)] <|
  o_aload 0 <|
  o_getf [8] 13 <|
  o_aload 0 <|
  o_getf [8] 17 <|
  o_iload 3 <|
  o_ast [(100, .int)] <|
  o_aload 0 <|
  o_getf [8] 14 <|
  o_aload 0 <|
  o_getf [8] 17 <|
  o_iload 4 <|
  o_ast [(100, .int)] <|
  o_aload 0 <|
  o_getf [8] 15 <|
  o_aload 0 <|
  o_getf [8] 17 <|
  o_iload 5 <|
  o_ast [(100, .int)] <|
  o_aload 0 <|
  o_dup <|
  o_getf [8] 17 <|
  o_push (.int 1) <|
  o_iadd <|
  o_putf [8] 17 .int <|
  o_return Q
def wX5_lay (E : Nat → Value) : Wp := fun av h Q => match av with
  | [a0, a1, a2, a3, a4, a5] => bX5_lay_0 E Q [a0, a1, a2, a3, a4, a5] [] h
  | _ => False
set_option maxHeartbeats 4000000 in
theorem tX5_lay_0 {x : CX} {E : Nat → Value} {Q : Rs → HS → Prop} (EN : EX x E) (G : Gd x cX5_lay "ChantRulesModel" yX5_lay 6 (Option.none : Option Jvm.ClassFile.FieldType) Q) (hF : x.1.2.2.2.frames = 2 ∧ x.1.2.2.2.locals = 64) (hC : x.2.2.2.2.2 = (fun _ => false)) (hxt : (∀ z ∈ x.2.2.1.2.1.exceptionTable.toList, False)) : Snd x 0 (bX5_lay_0 E Q) := by
  unfold bX5_lay_0
  refine s_aload_n rfl G.b dX5_lay_0 ?_
  refine s_getf G.b G.ow G.kn (G.hts _ q1914) (fun _ h => h) fa_87 dX5_lay_1 ?_
  refine s_aload_n rfl G.b dX5_lay_4 ?_
  refine s_getf G.b G.ow G.kn (G.hts _ q1920) (fun _ h => h) fa_99 dX5_lay_5 ?_
  refine s_iload_n rfl G.b dX5_lay_8 ?_
  refine s_iast G.b G.kn dX5_lay_9 ?_
  refine s_aload_n rfl G.b dX5_lay_10 ?_
  refine s_getf G.b G.ow G.kn (G.hts _ q1915) (fun _ h => h) fa_88 dX5_lay_11 ?_
  refine s_aload_n rfl G.b dX5_lay_14 ?_
  refine s_getf G.b G.ow G.kn (G.hts _ q1920) (fun _ h => h) fa_99 dX5_lay_15 ?_
  refine s_iload_n rfl G.b dX5_lay_18 ?_
  refine s_iast G.b G.kn dX5_lay_19 ?_
  refine s_aload_n rfl G.b dX5_lay_20 ?_
  refine s_getf G.b G.ow G.kn (G.hts _ q1916) (fun _ h => h) fa_89 dX5_lay_21 ?_
  refine s_aload_n rfl G.b dX5_lay_24 ?_
  refine s_getf G.b G.ow G.kn (G.hts _ q1920) (fun _ h => h) fa_99 dX5_lay_25 ?_
  refine s_iload_n rfl G.b dX5_lay_28 ?_
  refine s_iast G.b G.kn dX5_lay_29 ?_
  refine s_aload_n rfl G.b dX5_lay_30 ?_
  refine s_getf G.b G.ow G.kn (G.hts _ q1917) (fun _ h => h) fa_90 dX5_lay_31 ?_
  refine s_aload_n rfl G.b dX5_lay_34 ?_
  refine s_getf G.b G.ow G.kn (G.hts _ q1920) (fun _ h => h) fa_99 dX5_lay_35 ?_
  refine s_iload G.b dX5_lay_38 ?_
  refine s_iast G.b G.kn dX5_lay_40 ?_
  refine s_aload_n rfl G.b dX5_lay_41 ?_
  refine s_getf G.b G.ow G.kn (G.hts _ q1918) (fun _ h => h) fa_91 dX5_lay_42 ?_
  refine s_aload_n rfl G.b dX5_lay_45 ?_
  refine s_getf G.b G.ow G.kn (G.hts _ q1920) (fun _ h => h) fa_99 dX5_lay_46 ?_
  refine s_iload G.b dX5_lay_49 ?_
  refine s_iast G.b G.kn dX5_lay_51 ?_
  refine s_aload_n rfl G.b dX5_lay_52 ?_
  refine s_dup G.b dX5_lay_53 ?_
  refine s_getf G.b G.ow G.kn (G.hts _ q1920) (fun _ h => h) fa_99 dX5_lay_54 ?_
  refine s_iconst (by decide) G.b dX5_lay_57 ?_
  refine s_iadd G.b dX5_lay_58 ?_
  refine s_putf G.b G.ow G.kn (G.hts _ q1920) (fun _ h => h) fa_99 (la_cons (r := (RX5, TX5, 37)) G.hts (by decide) rfl q1974 (la_nil)) (by decide +kernel) dX5_lay_59 ?_
  exact s_return G dX5_lay_62
set_option maxHeartbeats 4000000 in
theorem mX5_lay {l : Launch} {D : DE} {s0 : State} {E : Nat → Value} (EN : EV l D s0 E) : rMet l D s0 yX5_lay (ws_ yX5_lay cX5_lay 6 (Option.none : Option Jvm.ClassFile.FieldType)) 2 64 (wX5_lay E) := by
  refine body_met (fun _ => false) EN.kn (fun w h => h) (by decide +kernel) rfl (fun av h Q hw => ?_) ?_
  · unfold wX5_lay at hw
    split at hw
    · exact Nat.le_of_ble_eq_true rfl
    · exact hw.elim
  · intro p e s m below meth c av h Q hxt G hw
    unfold wX5_lay at hw
    split at hw
    · exact tX5_lay_0 EN G ⟨rfl, rfl⟩ rfl hxt _ _ _ hw
    · exact hw.elim
/-! ChantRulesModel.pair(II)I (X5_pair) -/
def bX5_pair_0 (E : Nat → Value) (Q : Rs → HS → Prop) : Ct :=
  o_push (.int 5) <|
  o_iload 0 <|
  o_imul <|
  o_iload 1 <|
  o_iadd <|
  o_ireturn .int Q
def wX5_pair (E : Nat → Value) : Wp := fun av h Q => match av with
  | [a0, a1] => bX5_pair_0 E Q [a0, a1] [] h
  | _ => False
set_option maxHeartbeats 4000000 in
theorem tX5_pair_0 {x : CX} {E : Nat → Value} {Q : Rs → HS → Prop} (EN : EX x E) (G : Gd x cX5_pair "ChantRulesModel" yX5_pair 2 (Option.some Jvm.ClassFile.FieldType.int) Q) (hF : x.1.2.2.2.frames = 2 ∧ x.1.2.2.2.locals = 64) (hC : x.2.2.2.2.2 = (fun _ => false)) (hxt : (∀ z ∈ x.2.2.1.2.1.exceptionTable.toList, False)) : Snd x 0 (bX5_pair_0 E Q) := by
  unfold bX5_pair_0
  refine s_iconst (by decide) G.b dX5_pair_0 ?_
  refine s_iload_n rfl G.b dX5_pair_1 ?_
  refine s_imul G.b dX5_pair_2 ?_
  refine s_iload_n rfl G.b dX5_pair_3 ?_
  refine s_iadd G.b dX5_pair_4 ?_
  exact s_ireturn G dX5_pair_5
set_option maxHeartbeats 4000000 in
theorem mX5_pair {l : Launch} {D : DE} {s0 : State} {E : Nat → Value} (EN : EV l D s0 E) : rMet l D s0 yX5_pair (ws_ yX5_pair cX5_pair 2 (Option.some Jvm.ClassFile.FieldType.int)) 2 64 (wX5_pair E) := by
  refine body_met (fun _ => false) EN.kn (fun w h => h) (by decide +kernel) rfl (fun av h Q hw => ?_) ?_
  · unfold wX5_pair at hw
    split at hw
    · exact Nat.le_of_ble_eq_true rfl
    · exact hw.elim
  · intro p e s m below meth c av h Q hxt G hw
    unfold wX5_pair at hw
    split at hw
    · exact tX5_pair_0 EN G ⟨rfl, rfl⟩ rfl hxt _ _ _ hw
    · exact hw.elim
/-! ChantRulesModel.laysFirst(I)V (X5_laysFirst) -/
theorem nmk_262 : nm_ok yX5_lay 5 := ⟨by decide +kernel, by decide +kernel, by decide +kernel⟩
theorem nmk_263 : nm_ok yX5_pair 2 := ⟨by decide +kernel, by decide +kernel, by decide +kernel⟩
def bX5_laysFirst_213 (E : Nat → Value) (Q : Rs → HS → Prop) (X72 X114 : Ct) : Ct :=
  o_return Q
def bX5_laysFirst_207 (E : Nat → Value) (Q : Rs → HS → Prop) (X72 X114 : Ct) : Ct :=
  o_iinc 7 1 <|
  X114
def bX5_laysFirst_195 (E : Nat → Value) (Q : Rs → HS → Prop) (X72 X114 : Ct) : Ct :=
  o_push (.int 1) <|
  o_iload 7 <|
  o_push (.int 4) <|
  o_call 3 (wX5_of E) (x_out Q) <|
  o_ald [100] <|
  o_iadd <|
  o_callV [8] 6 (wX5_lay E) (x_out Q) <|
  (bX5_laysFirst_207 E Q X72 X114)
def bX5_laysFirst_114 (E : Nat → Value) (Q : Rs → HS → Prop) (X72 X114 : Ct) : Ct :=
  o_iload 7 <|
  o_aload 0 <|
  o_getf [8] 7 <|
  o_push (.int 3) <|
  o_ald [100] <|
  o_icmpge (bX5_laysFirst_213 E Q X72 X114) <|
  o_aload 0 <|
  o_getf [8] 7 <|
  o_push (.int 1) <|
  o_iload 7 <|
  o_push (.int 2) <|
  o_call 3 (wX5_of E) (x_out Q) <|
  o_ald [100] <|
  o_iload 5 <|
  o_icmpne (bX5_laysFirst_207 E Q X72 X114) <|
  o_aload 0 <|
  o_iload 2 <|
  o_aload 0 <|
  o_getf [8] 7 <|
  o_push (.int 1) <|
  o_iload 7 <|
  o_push (.int 0) <|
  o_call 3 (wX5_of E) (x_out Q) <|
  o_ald [100] <|
  o_call 2 (wX5_pair E) (x_out Q) <|
  o_iload 3 <|
  o_aload 0 <|
  o_getf [8] 7 <|
  o_push (.int 1) <|
  o_iload 7 <|
  o_push (.int 1) <|
  o_call 3 (wX5_of E) (x_out Q) <|
  o_ald [100] <|
  o_call 2 (wX5_pair E) (x_out Q) <|
  o_iload 4 <|
  o_aload 0 <|
  o_getf [8] 7 <|
  o_push (.int 1) <|
  o_iload 7 <|
  o_push (.int 3) <|
  o_call 3 (wX5_of E) (x_out Q) <|
  o_ald [100] <|
  o_iload 6 <|
  o_aload 0 <|
  o_getf [8] 7 <|
  (bX5_laysFirst_195 E Q X72 X114)
def bX5_laysFirst_111 (E : Nat → Value) (Q : Rs → HS → Prop) (X72 X114 : Ct) : Ct :=
  o_push (.int 0) <|
  o_istore 7 <|
  X114
def bX5_laysFirst_110 (E : Nat → Value) (Q : Rs → HS → Prop) (X72 X114 : Ct) : Ct :=
  o_return Q
def bX5_laysFirst_72 (E : Nat → Value) (Q : Rs → HS → Prop) (X72 X114 : Ct) : Ct :=
  o_iload 7 <|
  o_aload 0 <|
  o_getf [8] 7 <|
  o_push (.int 1) <|
  o_ald [100] <|
  o_icmpge (bX5_laysFirst_110 E Q X72 X114) <|
  o_aload 0 <|
  o_iload 2 <|
  o_iload 7 <|
  o_call 2 (wX5_pair E) (x_out Q) <|
  o_iload 3 <|
  o_iload 7 <|
  o_call 2 (wX5_pair E) (x_out Q) <|
  o_iload 4 <|
  o_push (.int 4) <|
  o_iload 6 <|
  o_callV [8] 6 (wX5_lay E) (x_out Q) <|
  o_iinc 7 1 <|
  X72
def bX5_laysFirst_0 (E : Nat → Value) (Q : Rs → HS → Prop) (X72 X114 : Ct) : Ct :=
  o_aload 0 <|
  o_getf [8] 7 <|
  o_push (.int 0) <|
  o_iload 1 <|
  o_push (.int 0) <|
  o_call 3 (wX5_of E) (x_out Q) <|
  o_ald [100] <|
  o_istore 2 <|
  o_aload 0 <|
  o_getf [8] 7 <|
  o_push (.int 0) <|
  o_iload 1 <|
  o_push (.int 1) <|
  o_call 3 (wX5_of E) (x_out Q) <|
  o_ald [100] <|
  o_istore 3 <|
  o_aload 0 <|
  o_getf [8] 7 <|
  o_push (.int 0) <|
  o_iload 1 <|
  o_push (.int 2) <|
  o_call 3 (wX5_of E) (x_out Q) <|
  o_ald [100] <|
  o_istore 4 <|
  o_aload 0 <|
  o_getf [8] 7 <|
  o_push (.int 0) <|
  o_iload 1 <|
  o_push (.int 3) <|
  o_call 3 (wX5_of E) (x_out Q) <|
  o_ald [100] <|
  o_istore 5 <|
  o_aload 0 <|
  o_getf [8] 7 <|
  o_push (.int 0) <|
  o_iload 1 <|
  o_push (.int 4) <|
  o_call 3 (wX5_of E) (x_out Q) <|
  o_ald [100] <|
  o_istore 6 <|
  o_iload 5 <|
  o_push (.int 4) <|
  o_icmpne (bX5_laysFirst_111 E Q X72 X114) <|
  o_push (.int 0) <|
  o_istore 7 <|
  X72
def wX5_laysFirst (E : Nat → Value) : Wp := fun av h Q => match av with
  | [a0, a1] => ∀ X72 X114 : Ct, (∀ ls st h, bX5_laysFirst_72 E Q X72 X114 ls st h → X72 ls st h) → (∀ ls st h, bX5_laysFirst_114 E Q X72 X114 ls st h → X114 ls st h) → bX5_laysFirst_0 E Q X72 X114 [a0, a1, jk, jk, jk, jk, jk, jk] [] h
  | _ => False
set_option maxHeartbeats 4000000 in
theorem tX5_laysFirst_213 {x : CX} {E : Nat → Value} {Q : Rs → HS → Prop} {X72 X114 : Ct} (EN : EX x E) (G : Gd x cX5_laysFirst "ChantRulesModel" yX5_laysFirst 8 (Option.none : Option Jvm.ClassFile.FieldType) Q) (hF : x.1.2.2.2.frames = 3 ∧ x.1.2.2.2.locals = 89) (hC : x.2.2.2.2.2 = (fun _ => false)) (hxt : (∀ z ∈ x.2.2.1.2.1.exceptionTable.toList, False)) (h72 : Snd x 72 X72) (h114 : Snd x 114 X114) : Snd x 213 (bX5_laysFirst_213 E Q X72 X114) := by
  unfold bX5_laysFirst_213
  exact s_return G dX5_laysFirst_213
set_option maxHeartbeats 4000000 in
theorem tX5_laysFirst_207 {x : CX} {E : Nat → Value} {Q : Rs → HS → Prop} {X72 X114 : Ct} (EN : EX x E) (G : Gd x cX5_laysFirst "ChantRulesModel" yX5_laysFirst 8 (Option.none : Option Jvm.ClassFile.FieldType) Q) (hF : x.1.2.2.2.frames = 3 ∧ x.1.2.2.2.locals = 89) (hC : x.2.2.2.2.2 = (fun _ => false)) (hxt : (∀ z ∈ x.2.2.1.2.1.exceptionTable.toList, False)) (h72 : Snd x 72 X72) (h114 : Snd x 114 X114) : Snd x 207 (bX5_laysFirst_207 E Q X72 X114) := by
  unfold bX5_laysFirst_207
  refine s_iinc (by decide) G.b (by rw [G.nl]; decide) (fun _ _ => by rw [hC]) dX5_laysFirst_207 ?_
  exact s_goto (tgt := 114) G.b dX5_laysFirst_210 (by decide) h114
set_option maxHeartbeats 4000000 in
theorem tX5_laysFirst_195 {x : CX} {E : Nat → Value} {Q : Rs → HS → Prop} {X72 X114 : Ct} (EN : EX x E) (G : Gd x cX5_laysFirst "ChantRulesModel" yX5_laysFirst 8 (Option.none : Option Jvm.ClassFile.FieldType) Q) (hF : x.1.2.2.2.frames = 3 ∧ x.1.2.2.2.locals = 89) (hC : x.2.2.2.2.2 = (fun _ => false)) (hxt : (∀ z ∈ x.2.2.1.2.1.exceptionTable.toList, False)) (h72 : Snd x 72 X72) (h114 : Snd x 114 X114) : Snd x 195 (bX5_laysFirst_195 E Q X72 X114) := by
  unfold bX5_laysFirst_195
  refine s_iconst (by decide) G.b dX5_laysFirst_195 ?_
  refine s_iload G.b dX5_laysFirst_196 ?_
  refine s_iconst (by decide) G.b dX5_laysFirst_198 ?_
  refine s_callS G (mX5_of EN) q2079 q2080 q90 q2081 nmk_248 (rm_of hF (Nat.le_of_ble_eq_true rfl) (Nat.le_of_ble_eq_true rfl)) dX5_laysFirst_199 ?_ (sx_out G (fun z hz => (hxt z hz).elim))
  refine s_iald G.b G.kn dX5_laysFirst_202 ?_
  refine s_iadd G.b dX5_laysFirst_203 ?_
  refine s_callV G (mX5_lay EN) q2122 q2124 (sel_cons (r := (RX5, TX5, 37)) (by decide) rfl qs47 (sel_nil)) q90 q2125 nmk_262 (rm_of hF (Nat.le_of_ble_eq_true rfl) (Nat.le_of_ble_eq_true rfl)) dX5_laysFirst_204 ?_ (sx_out G (fun z hz => (hxt z hz).elim))
  exact (tX5_laysFirst_207 EN G hF hC hxt h72 h114)
set_option maxHeartbeats 4000000 in
theorem tX5_laysFirst_114 {x : CX} {E : Nat → Value} {Q : Rs → HS → Prop} {X72 X114 : Ct} (EN : EX x E) (G : Gd x cX5_laysFirst "ChantRulesModel" yX5_laysFirst 8 (Option.none : Option Jvm.ClassFile.FieldType) Q) (hF : x.1.2.2.2.frames = 3 ∧ x.1.2.2.2.locals = 89) (hC : x.2.2.2.2.2 = (fun _ => false)) (hxt : (∀ z ∈ x.2.2.1.2.1.exceptionTable.toList, False)) (h72 : Snd x 72 X72) (h114 : Snd x 114 X114) : Snd x 114 (bX5_laysFirst_114 E Q X72 X114) := by
  unfold bX5_laysFirst_114
  refine s_iload G.b dX5_laysFirst_114 ?_
  refine s_aload_n rfl G.b dX5_laysFirst_116 ?_
  refine s_getf G.b G.ow G.kn (G.hts _ q1910) (fun _ h => h) fa_73 dX5_laysFirst_117 ?_
  refine s_iconst (by decide) G.b dX5_laysFirst_120 ?_
  refine s_iald G.b G.kn dX5_laysFirst_121 ?_
  refine s_icmpge (tgt := 213) G.b dX5_laysFirst_122 (by decide) (tX5_laysFirst_213 EN G hF hC hxt h72 h114) ?_
  refine s_aload_n rfl G.b dX5_laysFirst_125 ?_
  refine s_getf G.b G.ow G.kn (G.hts _ q1910) (fun _ h => h) fa_73 dX5_laysFirst_126 ?_
  refine s_iconst (by decide) G.b dX5_laysFirst_129 ?_
  refine s_iload G.b dX5_laysFirst_130 ?_
  refine s_iconst (by decide) G.b dX5_laysFirst_132 ?_
  refine s_callS G (mX5_of EN) q2079 q2080 q90 q2081 nmk_248 (rm_of hF (Nat.le_of_ble_eq_true rfl) (Nat.le_of_ble_eq_true rfl)) dX5_laysFirst_133 ?_ (sx_out G (fun z hz => (hxt z hz).elim))
  refine s_iald G.b G.kn dX5_laysFirst_136 ?_
  refine s_iload G.b dX5_laysFirst_137 ?_
  refine s_icmpne (tgt := 207) G.b dX5_laysFirst_139 (by decide) (tX5_laysFirst_207 EN G hF hC hxt h72 h114) ?_
  refine s_aload_n rfl G.b dX5_laysFirst_142 ?_
  refine s_iload_n rfl G.b dX5_laysFirst_143 ?_
  refine s_aload_n rfl G.b dX5_laysFirst_144 ?_
  refine s_getf G.b G.ow G.kn (G.hts _ q1910) (fun _ h => h) fa_73 dX5_laysFirst_145 ?_
  refine s_iconst (by decide) G.b dX5_laysFirst_148 ?_
  refine s_iload G.b dX5_laysFirst_149 ?_
  refine s_iconst (by decide) G.b dX5_laysFirst_151 ?_
  refine s_callS G (mX5_of EN) q2079 q2080 q90 q2081 nmk_248 (rm_of hF (Nat.le_of_ble_eq_true rfl) (Nat.le_of_ble_eq_true rfl)) dX5_laysFirst_152 ?_ (sx_out G (fun z hz => (hxt z hz).elim))
  refine s_iald G.b G.kn dX5_laysFirst_155 ?_
  refine s_callS G (mX5_pair EN) q2186 q2187 q90 q2188 nmk_263 (rm_of hF (Nat.le_of_ble_eq_true rfl) (Nat.le_of_ble_eq_true rfl)) dX5_laysFirst_156 ?_ (sx_out G (fun z hz => (hxt z hz).elim))
  refine s_iload_n rfl G.b dX5_laysFirst_159 ?_
  refine s_aload_n rfl G.b dX5_laysFirst_160 ?_
  refine s_getf G.b G.ow G.kn (G.hts _ q1910) (fun _ h => h) fa_73 dX5_laysFirst_161 ?_
  refine s_iconst (by decide) G.b dX5_laysFirst_164 ?_
  refine s_iload G.b dX5_laysFirst_165 ?_
  refine s_iconst (by decide) G.b dX5_laysFirst_167 ?_
  refine s_callS G (mX5_of EN) q2079 q2080 q90 q2081 nmk_248 (rm_of hF (Nat.le_of_ble_eq_true rfl) (Nat.le_of_ble_eq_true rfl)) dX5_laysFirst_168 ?_ (sx_out G (fun z hz => (hxt z hz).elim))
  refine s_iald G.b G.kn dX5_laysFirst_171 ?_
  refine s_callS G (mX5_pair EN) q2186 q2187 q90 q2188 nmk_263 (rm_of hF (Nat.le_of_ble_eq_true rfl) (Nat.le_of_ble_eq_true rfl)) dX5_laysFirst_172 ?_ (sx_out G (fun z hz => (hxt z hz).elim))
  refine s_iload G.b dX5_laysFirst_175 ?_
  refine s_aload_n rfl G.b dX5_laysFirst_177 ?_
  refine s_getf G.b G.ow G.kn (G.hts _ q1910) (fun _ h => h) fa_73 dX5_laysFirst_178 ?_
  refine s_iconst (by decide) G.b dX5_laysFirst_181 ?_
  refine s_iload G.b dX5_laysFirst_182 ?_
  refine s_iconst (by decide) G.b dX5_laysFirst_184 ?_
  refine s_callS G (mX5_of EN) q2079 q2080 q90 q2081 nmk_248 (rm_of hF (Nat.le_of_ble_eq_true rfl) (Nat.le_of_ble_eq_true rfl)) dX5_laysFirst_185 ?_ (sx_out G (fun z hz => (hxt z hz).elim))
  refine s_iald G.b G.kn dX5_laysFirst_188 ?_
  refine s_iload G.b dX5_laysFirst_189 ?_
  refine s_aload_n rfl G.b dX5_laysFirst_191 ?_
  refine s_getf G.b G.ow G.kn (G.hts _ q1910) (fun _ h => h) fa_73 dX5_laysFirst_192 ?_
  exact (tX5_laysFirst_195 EN G hF hC hxt h72 h114)
set_option maxHeartbeats 4000000 in
theorem tX5_laysFirst_111 {x : CX} {E : Nat → Value} {Q : Rs → HS → Prop} {X72 X114 : Ct} (EN : EX x E) (G : Gd x cX5_laysFirst "ChantRulesModel" yX5_laysFirst 8 (Option.none : Option Jvm.ClassFile.FieldType) Q) (hF : x.1.2.2.2.frames = 3 ∧ x.1.2.2.2.locals = 89) (hC : x.2.2.2.2.2 = (fun _ => false)) (hxt : (∀ z ∈ x.2.2.1.2.1.exceptionTable.toList, False)) (h72 : Snd x 72 X72) (h114 : Snd x 114 X114) : Snd x 111 (bX5_laysFirst_111 E Q X72 X114) := by
  unfold bX5_laysFirst_111
  refine s_iconst (by decide) G.b dX5_laysFirst_111 ?_
  refine s_istore G.b (by rw [G.nl]; decide) (fun _ _ => by rw [hC]) dX5_laysFirst_112 ?_
  exact h114
set_option maxHeartbeats 4000000 in
theorem tX5_laysFirst_110 {x : CX} {E : Nat → Value} {Q : Rs → HS → Prop} {X72 X114 : Ct} (EN : EX x E) (G : Gd x cX5_laysFirst "ChantRulesModel" yX5_laysFirst 8 (Option.none : Option Jvm.ClassFile.FieldType) Q) (hF : x.1.2.2.2.frames = 3 ∧ x.1.2.2.2.locals = 89) (hC : x.2.2.2.2.2 = (fun _ => false)) (hxt : (∀ z ∈ x.2.2.1.2.1.exceptionTable.toList, False)) (h72 : Snd x 72 X72) (h114 : Snd x 114 X114) : Snd x 110 (bX5_laysFirst_110 E Q X72 X114) := by
  unfold bX5_laysFirst_110
  exact s_return G dX5_laysFirst_110
set_option maxHeartbeats 4000000 in
theorem tX5_laysFirst_72 {x : CX} {E : Nat → Value} {Q : Rs → HS → Prop} {X72 X114 : Ct} (EN : EX x E) (G : Gd x cX5_laysFirst "ChantRulesModel" yX5_laysFirst 8 (Option.none : Option Jvm.ClassFile.FieldType) Q) (hF : x.1.2.2.2.frames = 3 ∧ x.1.2.2.2.locals = 89) (hC : x.2.2.2.2.2 = (fun _ => false)) (hxt : (∀ z ∈ x.2.2.1.2.1.exceptionTable.toList, False)) (h72 : Snd x 72 X72) (h114 : Snd x 114 X114) : Snd x 72 (bX5_laysFirst_72 E Q X72 X114) := by
  unfold bX5_laysFirst_72
  refine s_iload G.b dX5_laysFirst_72 ?_
  refine s_aload_n rfl G.b dX5_laysFirst_74 ?_
  refine s_getf G.b G.ow G.kn (G.hts _ q1910) (fun _ h => h) fa_73 dX5_laysFirst_75 ?_
  refine s_iconst (by decide) G.b dX5_laysFirst_78 ?_
  refine s_iald G.b G.kn dX5_laysFirst_79 ?_
  refine s_icmpge (tgt := 110) G.b dX5_laysFirst_80 (by decide) (tX5_laysFirst_110 EN G hF hC hxt h72 h114) ?_
  refine s_aload_n rfl G.b dX5_laysFirst_83 ?_
  refine s_iload_n rfl G.b dX5_laysFirst_84 ?_
  refine s_iload G.b dX5_laysFirst_85 ?_
  refine s_callS G (mX5_pair EN) q2186 q2187 q90 q2188 nmk_263 (rm_of hF (Nat.le_of_ble_eq_true rfl) (Nat.le_of_ble_eq_true rfl)) dX5_laysFirst_87 ?_ (sx_out G (fun z hz => (hxt z hz).elim))
  refine s_iload_n rfl G.b dX5_laysFirst_90 ?_
  refine s_iload G.b dX5_laysFirst_91 ?_
  refine s_callS G (mX5_pair EN) q2186 q2187 q90 q2188 nmk_263 (rm_of hF (Nat.le_of_ble_eq_true rfl) (Nat.le_of_ble_eq_true rfl)) dX5_laysFirst_93 ?_ (sx_out G (fun z hz => (hxt z hz).elim))
  refine s_iload G.b dX5_laysFirst_96 ?_
  refine s_iconst (by decide) G.b dX5_laysFirst_98 ?_
  refine s_iload G.b dX5_laysFirst_99 ?_
  refine s_callV G (mX5_lay EN) q2122 q2124 (sel_cons (r := (RX5, TX5, 37)) (by decide) rfl qs47 (sel_nil)) q90 q2125 nmk_262 (rm_of hF (Nat.le_of_ble_eq_true rfl) (Nat.le_of_ble_eq_true rfl)) dX5_laysFirst_101 ?_ (sx_out G (fun z hz => (hxt z hz).elim))
  refine s_iinc (by decide) G.b (by rw [G.nl]; decide) (fun _ _ => by rw [hC]) dX5_laysFirst_104 ?_
  exact s_goto (tgt := 72) G.b dX5_laysFirst_107 (by decide) h72
set_option maxHeartbeats 4000000 in
theorem tX5_laysFirst_0 {x : CX} {E : Nat → Value} {Q : Rs → HS → Prop} {X72 X114 : Ct} (EN : EX x E) (G : Gd x cX5_laysFirst "ChantRulesModel" yX5_laysFirst 8 (Option.none : Option Jvm.ClassFile.FieldType) Q) (hF : x.1.2.2.2.frames = 3 ∧ x.1.2.2.2.locals = 89) (hC : x.2.2.2.2.2 = (fun _ => false)) (hxt : (∀ z ∈ x.2.2.1.2.1.exceptionTable.toList, False)) (h72 : Snd x 72 X72) (h114 : Snd x 114 X114) : Snd x 0 (bX5_laysFirst_0 E Q X72 X114) := by
  unfold bX5_laysFirst_0
  refine s_aload_n rfl G.b dX5_laysFirst_0 ?_
  refine s_getf G.b G.ow G.kn (G.hts _ q1910) (fun _ h => h) fa_73 dX5_laysFirst_1 ?_
  refine s_iconst (by decide) G.b dX5_laysFirst_4 ?_
  refine s_iload_n rfl G.b dX5_laysFirst_5 ?_
  refine s_iconst (by decide) G.b dX5_laysFirst_6 ?_
  refine s_callS G (mX5_of EN) q2079 q2080 q90 q2081 nmk_248 (rm_of hF (Nat.le_of_ble_eq_true rfl) (Nat.le_of_ble_eq_true rfl)) dX5_laysFirst_7 ?_ (sx_out G (fun z hz => (hxt z hz).elim))
  refine s_iald G.b G.kn dX5_laysFirst_10 ?_
  refine s_istore_n rfl G.b (by rw [G.nl]; decide) (fun _ _ => by rw [hC]) dX5_laysFirst_11 ?_
  refine s_aload_n rfl G.b dX5_laysFirst_12 ?_
  refine s_getf G.b G.ow G.kn (G.hts _ q1910) (fun _ h => h) fa_73 dX5_laysFirst_13 ?_
  refine s_iconst (by decide) G.b dX5_laysFirst_16 ?_
  refine s_iload_n rfl G.b dX5_laysFirst_17 ?_
  refine s_iconst (by decide) G.b dX5_laysFirst_18 ?_
  refine s_callS G (mX5_of EN) q2079 q2080 q90 q2081 nmk_248 (rm_of hF (Nat.le_of_ble_eq_true rfl) (Nat.le_of_ble_eq_true rfl)) dX5_laysFirst_19 ?_ (sx_out G (fun z hz => (hxt z hz).elim))
  refine s_iald G.b G.kn dX5_laysFirst_22 ?_
  refine s_istore_n rfl G.b (by rw [G.nl]; decide) (fun _ _ => by rw [hC]) dX5_laysFirst_23 ?_
  refine s_aload_n rfl G.b dX5_laysFirst_24 ?_
  refine s_getf G.b G.ow G.kn (G.hts _ q1910) (fun _ h => h) fa_73 dX5_laysFirst_25 ?_
  refine s_iconst (by decide) G.b dX5_laysFirst_28 ?_
  refine s_iload_n rfl G.b dX5_laysFirst_29 ?_
  refine s_iconst (by decide) G.b dX5_laysFirst_30 ?_
  refine s_callS G (mX5_of EN) q2079 q2080 q90 q2081 nmk_248 (rm_of hF (Nat.le_of_ble_eq_true rfl) (Nat.le_of_ble_eq_true rfl)) dX5_laysFirst_31 ?_ (sx_out G (fun z hz => (hxt z hz).elim))
  refine s_iald G.b G.kn dX5_laysFirst_34 ?_
  refine s_istore G.b (by rw [G.nl]; decide) (fun _ _ => by rw [hC]) dX5_laysFirst_35 ?_
  refine s_aload_n rfl G.b dX5_laysFirst_37 ?_
  refine s_getf G.b G.ow G.kn (G.hts _ q1910) (fun _ h => h) fa_73 dX5_laysFirst_38 ?_
  refine s_iconst (by decide) G.b dX5_laysFirst_41 ?_
  refine s_iload_n rfl G.b dX5_laysFirst_42 ?_
  refine s_iconst (by decide) G.b dX5_laysFirst_43 ?_
  refine s_callS G (mX5_of EN) q2079 q2080 q90 q2081 nmk_248 (rm_of hF (Nat.le_of_ble_eq_true rfl) (Nat.le_of_ble_eq_true rfl)) dX5_laysFirst_44 ?_ (sx_out G (fun z hz => (hxt z hz).elim))
  refine s_iald G.b G.kn dX5_laysFirst_47 ?_
  refine s_istore G.b (by rw [G.nl]; decide) (fun _ _ => by rw [hC]) dX5_laysFirst_48 ?_
  refine s_aload_n rfl G.b dX5_laysFirst_50 ?_
  refine s_getf G.b G.ow G.kn (G.hts _ q1910) (fun _ h => h) fa_73 dX5_laysFirst_51 ?_
  refine s_iconst (by decide) G.b dX5_laysFirst_54 ?_
  refine s_iload_n rfl G.b dX5_laysFirst_55 ?_
  refine s_iconst (by decide) G.b dX5_laysFirst_56 ?_
  refine s_callS G (mX5_of EN) q2079 q2080 q90 q2081 nmk_248 (rm_of hF (Nat.le_of_ble_eq_true rfl) (Nat.le_of_ble_eq_true rfl)) dX5_laysFirst_57 ?_ (sx_out G (fun z hz => (hxt z hz).elim))
  refine s_iald G.b G.kn dX5_laysFirst_60 ?_
  refine s_istore G.b (by rw [G.nl]; decide) (fun _ _ => by rw [hC]) dX5_laysFirst_61 ?_
  refine s_iload G.b dX5_laysFirst_63 ?_
  refine s_iconst (by decide) G.b dX5_laysFirst_65 ?_
  refine s_icmpne (tgt := 111) G.b dX5_laysFirst_66 (by decide) (tX5_laysFirst_111 EN G hF hC hxt h72 h114) ?_
  refine s_iconst (by decide) G.b dX5_laysFirst_69 ?_
  refine s_istore G.b (by rw [G.nl]; decide) (fun _ _ => by rw [hC]) dX5_laysFirst_70 ?_
  exact h72
set_option maxHeartbeats 4000000 in
theorem mX5_laysFirst {l : Launch} {D : DE} {s0 : State} {E : Nat → Value} (EN : EV l D s0 E) : rMet l D s0 yX5_laysFirst (ws_ yX5_laysFirst cX5_laysFirst 8 (Option.none : Option Jvm.ClassFile.FieldType)) 3 89 (wX5_laysFirst E) := by
  refine body_met (fun _ => false) EN.kn (fun w h => h) (by decide +kernel) rfl (fun av h Q hw => ?_) ?_
  · unfold wX5_laysFirst at hw
    split at hw
    · exact Nat.le_of_ble_eq_true rfl
    · exact hw.elim
  · intro p e s m below meth c av h Q hxt G hw
    unfold wX5_laysFirst at hw
    split at hw
    · exact tX5_laysFirst_0 EN G ⟨rfl, rfl⟩ rfl hxt (fun _ _ _ h => h) (fun _ _ _ h => h) _ _ _ (hw (AW _ 72) (AW _ 114) (tX5_laysFirst_72 EN G ⟨rfl, rfl⟩ rfl hxt (fun _ _ _ h => h) (fun _ _ _ h => h)) (tX5_laysFirst_114 EN G ⟨rfl, rfl⟩ rfl hxt (fun _ _ _ h => h) (fun _ _ _ h => h)))
    · exact hw.elim
/-! ChantRulesModel.laysBoth()V (X5_laysBoth) -/
theorem nmk_264 : nm_ok yX5_laysFirst 1 := ⟨by decide +kernel, by decide +kernel, by decide +kernel⟩
theorem fa_100 : fieldAt [8] 18 "ChantRulesModel" "states" "I" := fa_cons (r := (RX5, TX5, 37)) rfl (by decide) rfl rfl rfl (fa_nil)
def bX5_laysBoth_249 (E : Nat → Value) (Q : Rs → HS → Prop) (X13 X20 X117 X140 X170 : Ct) : Ct :=
  o_return Q
def bX5_laysBoth_243 (E : Nat → Value) (Q : Rs → HS → Prop) (X13 X20 X117 X140 X170 : Ct) : Ct :=
  o_iinc 1 1 <|
  X140
def bX5_laysBoth_170 (E : Nat → Value) (Q : Rs → HS → Prop) (X13 X20 X117 X140 X170 : Ct) : Ct :=
  o_iload 2 <|
  o_aload 0 <|
  o_getf [8] 7 <|
  o_push (.int 0) <|
  o_ald [100] <|
  o_icmpge (bX5_laysBoth_243 E Q X13 X20 X117 X140 X170) <|
  o_aload 0 <|
  o_iload 2 <|
  o_aload 0 <|
  o_getf [8] 7 <|
  o_push (.int 1) <|
  o_iload 1 <|
  o_push (.int 0) <|
  o_call 3 (wX5_of E) (x_out Q) <|
  o_ald [100] <|
  o_call 2 (wX5_pair E) (x_out Q) <|
  o_iload 2 <|
  o_aload 0 <|
  o_getf [8] 7 <|
  o_push (.int 1) <|
  o_iload 1 <|
  o_push (.int 1) <|
  o_call 3 (wX5_of E) (x_out Q) <|
  o_ald [100] <|
  o_call 2 (wX5_pair E) (x_out Q) <|
  o_push (.int 4) <|
  o_aload 0 <|
  o_getf [8] 7 <|
  o_push (.int 1) <|
  o_iload 1 <|
  o_push (.int 3) <|
  o_call 3 (wX5_of E) (x_out Q) <|
  o_ald [100] <|
  o_aload 0 <|
  o_getf [8] 7 <|
  o_push (.int 1) <|
  o_iload 1 <|
  o_push (.int 4) <|
  o_call 3 (wX5_of E) (x_out Q) <|
  o_ald [100] <|
  o_callV [8] 6 (wX5_lay E) (x_out Q) <|
  o_iinc 2 1 <|
  X170
def bX5_laysBoth_168 (E : Nat → Value) (Q : Rs → HS → Prop) (X13 X20 X117 X140 X170 : Ct) : Ct :=
  o_push (.int 0) <|
  o_istore 2 <|
  X170
def bX5_laysBoth_140 (E : Nat → Value) (Q : Rs → HS → Prop) (X13 X20 X117 X140 X170 : Ct) : Ct :=
  o_iload 1 <|
  o_aload 0 <|
  o_getf [8] 7 <|
  o_push (.int 3) <|
  o_ald [100] <|
  o_icmpge (bX5_laysBoth_249 E Q X13 X20 X117 X140 X170) <|
  o_aload 0 <|
  o_getf [8] 7 <|
  o_push (.int 1) <|
  o_iload 1 <|
  o_push (.int 2) <|
  o_call 3 (wX5_of E) (x_out Q) <|
  o_ald [100] <|
  o_push (.int 4) <|
  o_icmpeq (bX5_laysBoth_168 E Q X13 X20 X117 X140 X170) <|
  (bX5_laysBoth_243 E Q X13 X20 X117 X140 X170)
def bX5_laysBoth_138 (E : Nat → Value) (Q : Rs → HS → Prop) (X13 X20 X117 X140 X170 : Ct) : Ct :=
  o_push (.int 0) <|
  o_istore 1 <|
  X140
def bX5_laysBoth_117 (E : Nat → Value) (Q : Rs → HS → Prop) (X13 X20 X117 X140 X170 : Ct) : Ct :=
  o_iload 1 <|
  o_aload 0 <|
  o_getf [8] 7 <|
  o_push (.int 2) <|
  o_ald [100] <|
  o_icmpge (bX5_laysBoth_138 E Q X13 X20 X117 X140 X170) <|
  o_aload 0 <|
  o_iload 1 <|
  o_callV [8] 2 (wX5_laysFirst E) (x_out Q) <|
  o_iinc 1 1 <|
  X117
def bX5_laysBoth_115 (E : Nat → Value) (Q : Rs → HS → Prop) (X13 X20 X117 X140 X170 : Ct) : Ct :=
  o_push (.int 0) <|
  o_istore 1 <|
  X117
def bX5_laysBoth_109 (E : Nat → Value) (Q : Rs → HS → Prop) (X13 X20 X117 X140 X170 : Ct) : Ct :=
  o_iinc 1 1 <|
  X13
def bX5_laysBoth_102 (E : Nat → Value) (Q : Rs → HS → Prop) (X13 X20 X117 X140 X170 : Ct) : Ct :=
  o_ast [(100, .int)] <|
  o_iinc 2 1 <|
  X20
def bX5_laysBoth_98 (E : Nat → Value) (Q : Rs → HS → Prop) (X13 X20 X117 X140 X170 : Ct) : Ct :=
  o_iload 3 <|
  o_iload 4 <|
  o_iadd <|
  (bX5_laysBoth_102 E Q X13 X20 X117 X140 X170)
def bX5_laysBoth_94 (E : Nat → Value) (Q : Rs → HS → Prop) (X13 X20 X117 X140 X170 : Ct) : Ct :=
  o_push (.int (-1)) <|
  (bX5_laysBoth_102 E Q X13 X20 X117 X140 X170)
def bX5_laysBoth_74 (E : Nat → Value) (Q : Rs → HS → Prop) (X13 X20 X117 X140 X170 : Ct) : Ct :=
  o_istore 4 <|
  o_aload 0 <|
  o_getf [8] 16 <|
  o_iload 1 <|
  o_iload 2 <|
  o_call 2 (wX5_pair E) (x_out Q) <|
  o_iload 3 <|
  o_iflt (bX5_laysBoth_94 E Q X13 X20 X117 X140 X170) <|
  o_iload 4 <|
  o_ifge (bX5_laysBoth_98 E Q X13 X20 X117 X140 X170) <|
  (bX5_laysBoth_94 E Q X13 X20 X117 X140 X170)
def bX5_laysBoth_73 (E : Nat → Value) (Q : Rs → HS → Prop) (X13 X20 X117 X140 X170 : Ct) : Ct :=
  o_push (.int (-1)) <|
  (bX5_laysBoth_74 E Q X13 X20 X117 X140 X170)
def bX5_laysBoth_49 (E : Nat → Value) (Q : Rs → HS → Prop) (X13 X20 X117 X140 X170 : Ct) : Ct :=
  o_istore 3 <|
  o_iload 2 <|
  o_aload 0 <|
  o_getf [8] 7 <|
  o_push (.int 1) <|
  o_ald [100] <|
  o_icmpge (bX5_laysBoth_73 E Q X13 X20 X117 X140 X170) <|
  o_aload 0 <|
  o_getf [8] 7 <|
  o_push (.int 1) <|
  o_iload 2 <|
  o_call 2 (wX5_endAt E) (x_out Q) <|
  o_ald [100] <|
  (bX5_laysBoth_74 E Q X13 X20 X117 X140 X170)
def bX5_laysBoth_48 (E : Nat → Value) (Q : Rs → HS → Prop) (X13 X20 X117 X140 X170 : Ct) : Ct :=
  o_push (.int (-1)) <|
  (bX5_laysBoth_49 E Q X13 X20 X117 X140 X170)
def bX5_laysBoth_20 (E : Nat → Value) (Q : Rs → HS → Prop) (X13 X20 X117 X140 X170 : Ct) : Ct :=
  o_iload 2 <|
  o_push (.int 5) <|
  o_icmpge (bX5_laysBoth_109 E Q X13 X20 X117 X140 X170) <|
  o_iload 1 <|
  o_aload 0 <|
  o_getf [8] 7 <|
  o_push (.int 0) <|
  o_ald [100] <|
  o_icmpge (bX5_laysBoth_48 E Q X13 X20 X117 X140 X170) <|
  o_aload 0 <|
  o_getf [8] 7 <|
  o_push (.int 0) <|
  o_iload 1 <|
  o_call 2 (wX5_endAt E) (x_out Q) <|
  o_ald [100] <|
  (bX5_laysBoth_49 E Q X13 X20 X117 X140 X170)
def bX5_laysBoth_13 (E : Nat → Value) (Q : Rs → HS → Prop) (X13 X20 X117 X140 X170 : Ct) : Ct :=
  o_iload 1 <|
  o_push (.int 5) <|
  o_icmpge (bX5_laysBoth_115 E Q X13 X20 X117 X140 X170) <|
  o_push (.int 0) <|
  o_istore 2 <|
  X20
def bX5_laysBoth_0 (E : Nat → Value) (Q : Rs → HS → Prop) (X13 X20 X117 X140 X170 : Ct) : Ct :=
  o_aload 0 <|
  o_push (.int 0) <|
  o_putf [8] 17 .int <|
  o_aload 0 <|
  o_push (.int 25) <|
  o_putf [8] 18 .int <|
  o_push (.int 0) <|
  o_istore 1 <|
  X13
def wX5_laysBoth (E : Nat → Value) : Wp := fun av h Q => match av with
  | [a0] => ∀ X13 X20 X117 X140 X170 : Ct, (∀ ls st h, bX5_laysBoth_13 E Q X13 X20 X117 X140 X170 ls st h → X13 ls st h) → (∀ ls st h, bX5_laysBoth_20 E Q X13 X20 X117 X140 X170 ls st h → X20 ls st h) → (∀ ls st h, bX5_laysBoth_117 E Q X13 X20 X117 X140 X170 ls st h → X117 ls st h) → (∀ ls st h, bX5_laysBoth_140 E Q X13 X20 X117 X140 X170 ls st h → X140 ls st h) → (∀ ls st h, bX5_laysBoth_170 E Q X13 X20 X117 X140 X170 ls st h → X170 ls st h) → bX5_laysBoth_0 E Q X13 X20 X117 X140 X170 [a0, jk, jk, jk, jk] [] h
  | _ => False
set_option maxHeartbeats 4000000 in
theorem tX5_laysBoth_249 {x : CX} {E : Nat → Value} {Q : Rs → HS → Prop} {X13 X20 X117 X140 X170 : Ct} (EN : EX x E) (G : Gd x cX5_laysBoth "ChantRulesModel" yX5_laysBoth 5 (Option.none : Option Jvm.ClassFile.FieldType) Q) (hF : x.1.2.2.2.frames = 4 ∧ x.1.2.2.2.locals = 116) (hC : x.2.2.2.2.2 = (fun _ => false)) (hxt : (∀ z ∈ x.2.2.1.2.1.exceptionTable.toList, False)) (h13 : Snd x 13 X13) (h20 : Snd x 20 X20) (h117 : Snd x 117 X117) (h140 : Snd x 140 X140) (h170 : Snd x 170 X170) : Snd x 249 (bX5_laysBoth_249 E Q X13 X20 X117 X140 X170) := by
  unfold bX5_laysBoth_249
  exact s_return G dX5_laysBoth_249
set_option maxHeartbeats 4000000 in
theorem tX5_laysBoth_243 {x : CX} {E : Nat → Value} {Q : Rs → HS → Prop} {X13 X20 X117 X140 X170 : Ct} (EN : EX x E) (G : Gd x cX5_laysBoth "ChantRulesModel" yX5_laysBoth 5 (Option.none : Option Jvm.ClassFile.FieldType) Q) (hF : x.1.2.2.2.frames = 4 ∧ x.1.2.2.2.locals = 116) (hC : x.2.2.2.2.2 = (fun _ => false)) (hxt : (∀ z ∈ x.2.2.1.2.1.exceptionTable.toList, False)) (h13 : Snd x 13 X13) (h20 : Snd x 20 X20) (h117 : Snd x 117 X117) (h140 : Snd x 140 X140) (h170 : Snd x 170 X170) : Snd x 243 (bX5_laysBoth_243 E Q X13 X20 X117 X140 X170) := by
  unfold bX5_laysBoth_243
  refine s_iinc (by decide) G.b (by rw [G.nl]; decide) (fun _ _ => by rw [hC]) dX5_laysBoth_243 ?_
  exact s_goto (tgt := 140) G.b dX5_laysBoth_246 (by decide) h140
set_option maxHeartbeats 4000000 in
theorem tX5_laysBoth_170 {x : CX} {E : Nat → Value} {Q : Rs → HS → Prop} {X13 X20 X117 X140 X170 : Ct} (EN : EX x E) (G : Gd x cX5_laysBoth "ChantRulesModel" yX5_laysBoth 5 (Option.none : Option Jvm.ClassFile.FieldType) Q) (hF : x.1.2.2.2.frames = 4 ∧ x.1.2.2.2.locals = 116) (hC : x.2.2.2.2.2 = (fun _ => false)) (hxt : (∀ z ∈ x.2.2.1.2.1.exceptionTable.toList, False)) (h13 : Snd x 13 X13) (h20 : Snd x 20 X20) (h117 : Snd x 117 X117) (h140 : Snd x 140 X140) (h170 : Snd x 170 X170) : Snd x 170 (bX5_laysBoth_170 E Q X13 X20 X117 X140 X170) := by
  unfold bX5_laysBoth_170
  refine s_iload_n rfl G.b dX5_laysBoth_170 ?_
  refine s_aload_n rfl G.b dX5_laysBoth_171 ?_
  refine s_getf G.b G.ow G.kn (G.hts _ q1910) (fun _ h => h) fa_73 dX5_laysBoth_172 ?_
  refine s_iconst (by decide) G.b dX5_laysBoth_175 ?_
  refine s_iald G.b G.kn dX5_laysBoth_176 ?_
  refine s_icmpge (tgt := 243) G.b dX5_laysBoth_177 (by decide) (tX5_laysBoth_243 EN G hF hC hxt h13 h20 h117 h140 h170) ?_
  refine s_aload_n rfl G.b dX5_laysBoth_180 ?_
  refine s_iload_n rfl G.b dX5_laysBoth_181 ?_
  refine s_aload_n rfl G.b dX5_laysBoth_182 ?_
  refine s_getf G.b G.ow G.kn (G.hts _ q1910) (fun _ h => h) fa_73 dX5_laysBoth_183 ?_
  refine s_iconst (by decide) G.b dX5_laysBoth_186 ?_
  refine s_iload_n rfl G.b dX5_laysBoth_187 ?_
  refine s_iconst (by decide) G.b dX5_laysBoth_188 ?_
  refine s_callS G (mX5_of EN) q2079 q2080 q90 q2081 nmk_248 (rm_of hF (Nat.le_of_ble_eq_true rfl) (Nat.le_of_ble_eq_true rfl)) dX5_laysBoth_189 ?_ (sx_out G (fun z hz => (hxt z hz).elim))
  refine s_iald G.b G.kn dX5_laysBoth_192 ?_
  refine s_callS G (mX5_pair EN) q2186 q2187 q90 q2188 nmk_263 (rm_of hF (Nat.le_of_ble_eq_true rfl) (Nat.le_of_ble_eq_true rfl)) dX5_laysBoth_193 ?_ (sx_out G (fun z hz => (hxt z hz).elim))
  refine s_iload_n rfl G.b dX5_laysBoth_196 ?_
  refine s_aload_n rfl G.b dX5_laysBoth_197 ?_
  refine s_getf G.b G.ow G.kn (G.hts _ q1910) (fun _ h => h) fa_73 dX5_laysBoth_198 ?_
  refine s_iconst (by decide) G.b dX5_laysBoth_201 ?_
  refine s_iload_n rfl G.b dX5_laysBoth_202 ?_
  refine s_iconst (by decide) G.b dX5_laysBoth_203 ?_
  refine s_callS G (mX5_of EN) q2079 q2080 q90 q2081 nmk_248 (rm_of hF (Nat.le_of_ble_eq_true rfl) (Nat.le_of_ble_eq_true rfl)) dX5_laysBoth_204 ?_ (sx_out G (fun z hz => (hxt z hz).elim))
  refine s_iald G.b G.kn dX5_laysBoth_207 ?_
  refine s_callS G (mX5_pair EN) q2186 q2187 q90 q2188 nmk_263 (rm_of hF (Nat.le_of_ble_eq_true rfl) (Nat.le_of_ble_eq_true rfl)) dX5_laysBoth_208 ?_ (sx_out G (fun z hz => (hxt z hz).elim))
  refine s_iconst (by decide) G.b dX5_laysBoth_211 ?_
  refine s_aload_n rfl G.b dX5_laysBoth_212 ?_
  refine s_getf G.b G.ow G.kn (G.hts _ q1910) (fun _ h => h) fa_73 dX5_laysBoth_213 ?_
  refine s_iconst (by decide) G.b dX5_laysBoth_216 ?_
  refine s_iload_n rfl G.b dX5_laysBoth_217 ?_
  refine s_iconst (by decide) G.b dX5_laysBoth_218 ?_
  refine s_callS G (mX5_of EN) q2079 q2080 q90 q2081 nmk_248 (rm_of hF (Nat.le_of_ble_eq_true rfl) (Nat.le_of_ble_eq_true rfl)) dX5_laysBoth_219 ?_ (sx_out G (fun z hz => (hxt z hz).elim))
  refine s_iald G.b G.kn dX5_laysBoth_222 ?_
  refine s_aload_n rfl G.b dX5_laysBoth_223 ?_
  refine s_getf G.b G.ow G.kn (G.hts _ q1910) (fun _ h => h) fa_73 dX5_laysBoth_224 ?_
  refine s_iconst (by decide) G.b dX5_laysBoth_227 ?_
  refine s_iload_n rfl G.b dX5_laysBoth_228 ?_
  refine s_iconst (by decide) G.b dX5_laysBoth_229 ?_
  refine s_callS G (mX5_of EN) q2079 q2080 q90 q2081 nmk_248 (rm_of hF (Nat.le_of_ble_eq_true rfl) (Nat.le_of_ble_eq_true rfl)) dX5_laysBoth_230 ?_ (sx_out G (fun z hz => (hxt z hz).elim))
  refine s_iald G.b G.kn dX5_laysBoth_233 ?_
  refine s_callV G (mX5_lay EN) q2122 q2124 (sel_cons (r := (RX5, TX5, 37)) (by decide) rfl qs47 (sel_nil)) q90 q2125 nmk_262 (rm_of hF (Nat.le_of_ble_eq_true rfl) (Nat.le_of_ble_eq_true rfl)) dX5_laysBoth_234 ?_ (sx_out G (fun z hz => (hxt z hz).elim))
  refine s_iinc (by decide) G.b (by rw [G.nl]; decide) (fun _ _ => by rw [hC]) dX5_laysBoth_237 ?_
  exact s_goto (tgt := 170) G.b dX5_laysBoth_240 (by decide) h170
set_option maxHeartbeats 4000000 in
theorem tX5_laysBoth_168 {x : CX} {E : Nat → Value} {Q : Rs → HS → Prop} {X13 X20 X117 X140 X170 : Ct} (EN : EX x E) (G : Gd x cX5_laysBoth "ChantRulesModel" yX5_laysBoth 5 (Option.none : Option Jvm.ClassFile.FieldType) Q) (hF : x.1.2.2.2.frames = 4 ∧ x.1.2.2.2.locals = 116) (hC : x.2.2.2.2.2 = (fun _ => false)) (hxt : (∀ z ∈ x.2.2.1.2.1.exceptionTable.toList, False)) (h13 : Snd x 13 X13) (h20 : Snd x 20 X20) (h117 : Snd x 117 X117) (h140 : Snd x 140 X140) (h170 : Snd x 170 X170) : Snd x 168 (bX5_laysBoth_168 E Q X13 X20 X117 X140 X170) := by
  unfold bX5_laysBoth_168
  refine s_iconst (by decide) G.b dX5_laysBoth_168 ?_
  refine s_istore_n rfl G.b (by rw [G.nl]; decide) (fun _ _ => by rw [hC]) dX5_laysBoth_169 ?_
  exact h170
set_option maxHeartbeats 4000000 in
theorem tX5_laysBoth_140 {x : CX} {E : Nat → Value} {Q : Rs → HS → Prop} {X13 X20 X117 X140 X170 : Ct} (EN : EX x E) (G : Gd x cX5_laysBoth "ChantRulesModel" yX5_laysBoth 5 (Option.none : Option Jvm.ClassFile.FieldType) Q) (hF : x.1.2.2.2.frames = 4 ∧ x.1.2.2.2.locals = 116) (hC : x.2.2.2.2.2 = (fun _ => false)) (hxt : (∀ z ∈ x.2.2.1.2.1.exceptionTable.toList, False)) (h13 : Snd x 13 X13) (h20 : Snd x 20 X20) (h117 : Snd x 117 X117) (h140 : Snd x 140 X140) (h170 : Snd x 170 X170) : Snd x 140 (bX5_laysBoth_140 E Q X13 X20 X117 X140 X170) := by
  unfold bX5_laysBoth_140
  refine s_iload_n rfl G.b dX5_laysBoth_140 ?_
  refine s_aload_n rfl G.b dX5_laysBoth_141 ?_
  refine s_getf G.b G.ow G.kn (G.hts _ q1910) (fun _ h => h) fa_73 dX5_laysBoth_142 ?_
  refine s_iconst (by decide) G.b dX5_laysBoth_145 ?_
  refine s_iald G.b G.kn dX5_laysBoth_146 ?_
  refine s_icmpge (tgt := 249) G.b dX5_laysBoth_147 (by decide) (tX5_laysBoth_249 EN G hF hC hxt h13 h20 h117 h140 h170) ?_
  refine s_aload_n rfl G.b dX5_laysBoth_150 ?_
  refine s_getf G.b G.ow G.kn (G.hts _ q1910) (fun _ h => h) fa_73 dX5_laysBoth_151 ?_
  refine s_iconst (by decide) G.b dX5_laysBoth_154 ?_
  refine s_iload_n rfl G.b dX5_laysBoth_155 ?_
  refine s_iconst (by decide) G.b dX5_laysBoth_156 ?_
  refine s_callS G (mX5_of EN) q2079 q2080 q90 q2081 nmk_248 (rm_of hF (Nat.le_of_ble_eq_true rfl) (Nat.le_of_ble_eq_true rfl)) dX5_laysBoth_157 ?_ (sx_out G (fun z hz => (hxt z hz).elim))
  refine s_iald G.b G.kn dX5_laysBoth_160 ?_
  refine s_iconst (by decide) G.b dX5_laysBoth_161 ?_
  refine s_icmpeq (tgt := 168) G.b dX5_laysBoth_162 (by decide) (tX5_laysBoth_168 EN G hF hC hxt h13 h20 h117 h140 h170) ?_
  exact s_goto (tgt := 243) G.b dX5_laysBoth_165 (by decide) (tX5_laysBoth_243 EN G hF hC hxt h13 h20 h117 h140 h170)
set_option maxHeartbeats 4000000 in
theorem tX5_laysBoth_138 {x : CX} {E : Nat → Value} {Q : Rs → HS → Prop} {X13 X20 X117 X140 X170 : Ct} (EN : EX x E) (G : Gd x cX5_laysBoth "ChantRulesModel" yX5_laysBoth 5 (Option.none : Option Jvm.ClassFile.FieldType) Q) (hF : x.1.2.2.2.frames = 4 ∧ x.1.2.2.2.locals = 116) (hC : x.2.2.2.2.2 = (fun _ => false)) (hxt : (∀ z ∈ x.2.2.1.2.1.exceptionTable.toList, False)) (h13 : Snd x 13 X13) (h20 : Snd x 20 X20) (h117 : Snd x 117 X117) (h140 : Snd x 140 X140) (h170 : Snd x 170 X170) : Snd x 138 (bX5_laysBoth_138 E Q X13 X20 X117 X140 X170) := by
  unfold bX5_laysBoth_138
  refine s_iconst (by decide) G.b dX5_laysBoth_138 ?_
  refine s_istore_n rfl G.b (by rw [G.nl]; decide) (fun _ _ => by rw [hC]) dX5_laysBoth_139 ?_
  exact h140
set_option maxHeartbeats 4000000 in
theorem tX5_laysBoth_117 {x : CX} {E : Nat → Value} {Q : Rs → HS → Prop} {X13 X20 X117 X140 X170 : Ct} (EN : EX x E) (G : Gd x cX5_laysBoth "ChantRulesModel" yX5_laysBoth 5 (Option.none : Option Jvm.ClassFile.FieldType) Q) (hF : x.1.2.2.2.frames = 4 ∧ x.1.2.2.2.locals = 116) (hC : x.2.2.2.2.2 = (fun _ => false)) (hxt : (∀ z ∈ x.2.2.1.2.1.exceptionTable.toList, False)) (h13 : Snd x 13 X13) (h20 : Snd x 20 X20) (h117 : Snd x 117 X117) (h140 : Snd x 140 X140) (h170 : Snd x 170 X170) : Snd x 117 (bX5_laysBoth_117 E Q X13 X20 X117 X140 X170) := by
  unfold bX5_laysBoth_117
  refine s_iload_n rfl G.b dX5_laysBoth_117 ?_
  refine s_aload_n rfl G.b dX5_laysBoth_118 ?_
  refine s_getf G.b G.ow G.kn (G.hts _ q1910) (fun _ h => h) fa_73 dX5_laysBoth_119 ?_
  refine s_iconst (by decide) G.b dX5_laysBoth_122 ?_
  refine s_iald G.b G.kn dX5_laysBoth_123 ?_
  refine s_icmpge (tgt := 138) G.b dX5_laysBoth_124 (by decide) (tX5_laysBoth_138 EN G hF hC hxt h13 h20 h117 h140 h170) ?_
  refine s_aload_n rfl G.b dX5_laysBoth_127 ?_
  refine s_iload_n rfl G.b dX5_laysBoth_128 ?_
  refine s_callV G (mX5_laysFirst EN) q2189 q2191 (sel_cons (r := (RX5, TX5, 37)) (by decide) rfl qs60 (sel_nil)) q90 q2192 nmk_264 (rm_of hF (Nat.le_of_ble_eq_true rfl) (Nat.le_of_ble_eq_true rfl)) dX5_laysBoth_129 ?_ (sx_out G (fun z hz => (hxt z hz).elim))
  refine s_iinc (by decide) G.b (by rw [G.nl]; decide) (fun _ _ => by rw [hC]) dX5_laysBoth_132 ?_
  exact s_goto (tgt := 117) G.b dX5_laysBoth_135 (by decide) h117
set_option maxHeartbeats 4000000 in
theorem tX5_laysBoth_115 {x : CX} {E : Nat → Value} {Q : Rs → HS → Prop} {X13 X20 X117 X140 X170 : Ct} (EN : EX x E) (G : Gd x cX5_laysBoth "ChantRulesModel" yX5_laysBoth 5 (Option.none : Option Jvm.ClassFile.FieldType) Q) (hF : x.1.2.2.2.frames = 4 ∧ x.1.2.2.2.locals = 116) (hC : x.2.2.2.2.2 = (fun _ => false)) (hxt : (∀ z ∈ x.2.2.1.2.1.exceptionTable.toList, False)) (h13 : Snd x 13 X13) (h20 : Snd x 20 X20) (h117 : Snd x 117 X117) (h140 : Snd x 140 X140) (h170 : Snd x 170 X170) : Snd x 115 (bX5_laysBoth_115 E Q X13 X20 X117 X140 X170) := by
  unfold bX5_laysBoth_115
  refine s_iconst (by decide) G.b dX5_laysBoth_115 ?_
  refine s_istore_n rfl G.b (by rw [G.nl]; decide) (fun _ _ => by rw [hC]) dX5_laysBoth_116 ?_
  exact h117
set_option maxHeartbeats 4000000 in
theorem tX5_laysBoth_109 {x : CX} {E : Nat → Value} {Q : Rs → HS → Prop} {X13 X20 X117 X140 X170 : Ct} (EN : EX x E) (G : Gd x cX5_laysBoth "ChantRulesModel" yX5_laysBoth 5 (Option.none : Option Jvm.ClassFile.FieldType) Q) (hF : x.1.2.2.2.frames = 4 ∧ x.1.2.2.2.locals = 116) (hC : x.2.2.2.2.2 = (fun _ => false)) (hxt : (∀ z ∈ x.2.2.1.2.1.exceptionTable.toList, False)) (h13 : Snd x 13 X13) (h20 : Snd x 20 X20) (h117 : Snd x 117 X117) (h140 : Snd x 140 X140) (h170 : Snd x 170 X170) : Snd x 109 (bX5_laysBoth_109 E Q X13 X20 X117 X140 X170) := by
  unfold bX5_laysBoth_109
  refine s_iinc (by decide) G.b (by rw [G.nl]; decide) (fun _ _ => by rw [hC]) dX5_laysBoth_109 ?_
  exact s_goto (tgt := 13) G.b dX5_laysBoth_112 (by decide) h13
set_option maxHeartbeats 4000000 in
theorem tX5_laysBoth_102 {x : CX} {E : Nat → Value} {Q : Rs → HS → Prop} {X13 X20 X117 X140 X170 : Ct} (EN : EX x E) (G : Gd x cX5_laysBoth "ChantRulesModel" yX5_laysBoth 5 (Option.none : Option Jvm.ClassFile.FieldType) Q) (hF : x.1.2.2.2.frames = 4 ∧ x.1.2.2.2.locals = 116) (hC : x.2.2.2.2.2 = (fun _ => false)) (hxt : (∀ z ∈ x.2.2.1.2.1.exceptionTable.toList, False)) (h13 : Snd x 13 X13) (h20 : Snd x 20 X20) (h117 : Snd x 117 X117) (h140 : Snd x 140 X140) (h170 : Snd x 170 X170) : Snd x 102 (bX5_laysBoth_102 E Q X13 X20 X117 X140 X170) := by
  unfold bX5_laysBoth_102
  refine s_iast G.b G.kn dX5_laysBoth_102 ?_
  refine s_iinc (by decide) G.b (by rw [G.nl]; decide) (fun _ _ => by rw [hC]) dX5_laysBoth_103 ?_
  exact s_goto (tgt := 20) G.b dX5_laysBoth_106 (by decide) h20
set_option maxHeartbeats 4000000 in
theorem tX5_laysBoth_98 {x : CX} {E : Nat → Value} {Q : Rs → HS → Prop} {X13 X20 X117 X140 X170 : Ct} (EN : EX x E) (G : Gd x cX5_laysBoth "ChantRulesModel" yX5_laysBoth 5 (Option.none : Option Jvm.ClassFile.FieldType) Q) (hF : x.1.2.2.2.frames = 4 ∧ x.1.2.2.2.locals = 116) (hC : x.2.2.2.2.2 = (fun _ => false)) (hxt : (∀ z ∈ x.2.2.1.2.1.exceptionTable.toList, False)) (h13 : Snd x 13 X13) (h20 : Snd x 20 X20) (h117 : Snd x 117 X117) (h140 : Snd x 140 X140) (h170 : Snd x 170 X170) : Snd x 98 (bX5_laysBoth_98 E Q X13 X20 X117 X140 X170) := by
  unfold bX5_laysBoth_98
  refine s_iload_n rfl G.b dX5_laysBoth_98 ?_
  refine s_iload G.b dX5_laysBoth_99 ?_
  refine s_iadd G.b dX5_laysBoth_101 ?_
  exact (tX5_laysBoth_102 EN G hF hC hxt h13 h20 h117 h140 h170)
set_option maxHeartbeats 4000000 in
theorem tX5_laysBoth_94 {x : CX} {E : Nat → Value} {Q : Rs → HS → Prop} {X13 X20 X117 X140 X170 : Ct} (EN : EX x E) (G : Gd x cX5_laysBoth "ChantRulesModel" yX5_laysBoth 5 (Option.none : Option Jvm.ClassFile.FieldType) Q) (hF : x.1.2.2.2.frames = 4 ∧ x.1.2.2.2.locals = 116) (hC : x.2.2.2.2.2 = (fun _ => false)) (hxt : (∀ z ∈ x.2.2.1.2.1.exceptionTable.toList, False)) (h13 : Snd x 13 X13) (h20 : Snd x 20 X20) (h117 : Snd x 117 X117) (h140 : Snd x 140 X140) (h170 : Snd x 170 X170) : Snd x 94 (bX5_laysBoth_94 E Q X13 X20 X117 X140 X170) := by
  unfold bX5_laysBoth_94
  refine s_iconst (by decide) G.b dX5_laysBoth_94 ?_
  exact s_goto (tgt := 102) G.b dX5_laysBoth_95 (by decide) (tX5_laysBoth_102 EN G hF hC hxt h13 h20 h117 h140 h170)
set_option maxHeartbeats 4000000 in
theorem tX5_laysBoth_74 {x : CX} {E : Nat → Value} {Q : Rs → HS → Prop} {X13 X20 X117 X140 X170 : Ct} (EN : EX x E) (G : Gd x cX5_laysBoth "ChantRulesModel" yX5_laysBoth 5 (Option.none : Option Jvm.ClassFile.FieldType) Q) (hF : x.1.2.2.2.frames = 4 ∧ x.1.2.2.2.locals = 116) (hC : x.2.2.2.2.2 = (fun _ => false)) (hxt : (∀ z ∈ x.2.2.1.2.1.exceptionTable.toList, False)) (h13 : Snd x 13 X13) (h20 : Snd x 20 X20) (h117 : Snd x 117 X117) (h140 : Snd x 140 X140) (h170 : Snd x 170 X170) : Snd x 74 (bX5_laysBoth_74 E Q X13 X20 X117 X140 X170) := by
  unfold bX5_laysBoth_74
  refine s_istore G.b (by rw [G.nl]; decide) (fun _ _ => by rw [hC]) dX5_laysBoth_74 ?_
  refine s_aload_n rfl G.b dX5_laysBoth_76 ?_
  refine s_getf G.b G.ow G.kn (G.hts _ q1919) (fun _ h => h) fa_92 dX5_laysBoth_77 ?_
  refine s_iload_n rfl G.b dX5_laysBoth_80 ?_
  refine s_iload_n rfl G.b dX5_laysBoth_81 ?_
  refine s_callS G (mX5_pair EN) q2186 q2187 q90 q2188 nmk_263 (rm_of hF (Nat.le_of_ble_eq_true rfl) (Nat.le_of_ble_eq_true rfl)) dX5_laysBoth_82 ?_ (sx_out G (fun z hz => (hxt z hz).elim))
  refine s_iload_n rfl G.b dX5_laysBoth_85 ?_
  refine s_iflt (tgt := 94) G.b dX5_laysBoth_86 (by decide) (tX5_laysBoth_94 EN G hF hC hxt h13 h20 h117 h140 h170) ?_
  refine s_iload G.b dX5_laysBoth_89 ?_
  refine s_ifge (tgt := 98) G.b dX5_laysBoth_91 (by decide) (tX5_laysBoth_98 EN G hF hC hxt h13 h20 h117 h140 h170) ?_
  exact (tX5_laysBoth_94 EN G hF hC hxt h13 h20 h117 h140 h170)
set_option maxHeartbeats 4000000 in
theorem tX5_laysBoth_73 {x : CX} {E : Nat → Value} {Q : Rs → HS → Prop} {X13 X20 X117 X140 X170 : Ct} (EN : EX x E) (G : Gd x cX5_laysBoth "ChantRulesModel" yX5_laysBoth 5 (Option.none : Option Jvm.ClassFile.FieldType) Q) (hF : x.1.2.2.2.frames = 4 ∧ x.1.2.2.2.locals = 116) (hC : x.2.2.2.2.2 = (fun _ => false)) (hxt : (∀ z ∈ x.2.2.1.2.1.exceptionTable.toList, False)) (h13 : Snd x 13 X13) (h20 : Snd x 20 X20) (h117 : Snd x 117 X117) (h140 : Snd x 140 X140) (h170 : Snd x 170 X170) : Snd x 73 (bX5_laysBoth_73 E Q X13 X20 X117 X140 X170) := by
  unfold bX5_laysBoth_73
  refine s_iconst (by decide) G.b dX5_laysBoth_73 ?_
  exact (tX5_laysBoth_74 EN G hF hC hxt h13 h20 h117 h140 h170)
set_option maxHeartbeats 4000000 in
theorem tX5_laysBoth_49 {x : CX} {E : Nat → Value} {Q : Rs → HS → Prop} {X13 X20 X117 X140 X170 : Ct} (EN : EX x E) (G : Gd x cX5_laysBoth "ChantRulesModel" yX5_laysBoth 5 (Option.none : Option Jvm.ClassFile.FieldType) Q) (hF : x.1.2.2.2.frames = 4 ∧ x.1.2.2.2.locals = 116) (hC : x.2.2.2.2.2 = (fun _ => false)) (hxt : (∀ z ∈ x.2.2.1.2.1.exceptionTable.toList, False)) (h13 : Snd x 13 X13) (h20 : Snd x 20 X20) (h117 : Snd x 117 X117) (h140 : Snd x 140 X140) (h170 : Snd x 170 X170) : Snd x 49 (bX5_laysBoth_49 E Q X13 X20 X117 X140 X170) := by
  unfold bX5_laysBoth_49
  refine s_istore_n rfl G.b (by rw [G.nl]; decide) (fun _ _ => by rw [hC]) dX5_laysBoth_49 ?_
  refine s_iload_n rfl G.b dX5_laysBoth_50 ?_
  refine s_aload_n rfl G.b dX5_laysBoth_51 ?_
  refine s_getf G.b G.ow G.kn (G.hts _ q1910) (fun _ h => h) fa_73 dX5_laysBoth_52 ?_
  refine s_iconst (by decide) G.b dX5_laysBoth_55 ?_
  refine s_iald G.b G.kn dX5_laysBoth_56 ?_
  refine s_icmpge (tgt := 73) G.b dX5_laysBoth_57 (by decide) (tX5_laysBoth_73 EN G hF hC hxt h13 h20 h117 h140 h170) ?_
  refine s_aload_n rfl G.b dX5_laysBoth_60 ?_
  refine s_getf G.b G.ow G.kn (G.hts _ q1910) (fun _ h => h) fa_73 dX5_laysBoth_61 ?_
  refine s_iconst (by decide) G.b dX5_laysBoth_64 ?_
  refine s_iload_n rfl G.b dX5_laysBoth_65 ?_
  refine s_callS G (mX5_endAt EN) q2044 q2045 q90 q2046 nmk_247 (rm_of hF (Nat.le_of_ble_eq_true rfl) (Nat.le_of_ble_eq_true rfl)) dX5_laysBoth_66 ?_ (sx_out G (fun z hz => (hxt z hz).elim))
  refine s_iald G.b G.kn dX5_laysBoth_69 ?_
  exact s_goto (tgt := 74) G.b dX5_laysBoth_70 (by decide) (tX5_laysBoth_74 EN G hF hC hxt h13 h20 h117 h140 h170)
set_option maxHeartbeats 4000000 in
theorem tX5_laysBoth_48 {x : CX} {E : Nat → Value} {Q : Rs → HS → Prop} {X13 X20 X117 X140 X170 : Ct} (EN : EX x E) (G : Gd x cX5_laysBoth "ChantRulesModel" yX5_laysBoth 5 (Option.none : Option Jvm.ClassFile.FieldType) Q) (hF : x.1.2.2.2.frames = 4 ∧ x.1.2.2.2.locals = 116) (hC : x.2.2.2.2.2 = (fun _ => false)) (hxt : (∀ z ∈ x.2.2.1.2.1.exceptionTable.toList, False)) (h13 : Snd x 13 X13) (h20 : Snd x 20 X20) (h117 : Snd x 117 X117) (h140 : Snd x 140 X140) (h170 : Snd x 170 X170) : Snd x 48 (bX5_laysBoth_48 E Q X13 X20 X117 X140 X170) := by
  unfold bX5_laysBoth_48
  refine s_iconst (by decide) G.b dX5_laysBoth_48 ?_
  exact (tX5_laysBoth_49 EN G hF hC hxt h13 h20 h117 h140 h170)
set_option maxHeartbeats 4000000 in
theorem tX5_laysBoth_20 {x : CX} {E : Nat → Value} {Q : Rs → HS → Prop} {X13 X20 X117 X140 X170 : Ct} (EN : EX x E) (G : Gd x cX5_laysBoth "ChantRulesModel" yX5_laysBoth 5 (Option.none : Option Jvm.ClassFile.FieldType) Q) (hF : x.1.2.2.2.frames = 4 ∧ x.1.2.2.2.locals = 116) (hC : x.2.2.2.2.2 = (fun _ => false)) (hxt : (∀ z ∈ x.2.2.1.2.1.exceptionTable.toList, False)) (h13 : Snd x 13 X13) (h20 : Snd x 20 X20) (h117 : Snd x 117 X117) (h140 : Snd x 140 X140) (h170 : Snd x 170 X170) : Snd x 20 (bX5_laysBoth_20 E Q X13 X20 X117 X140 X170) := by
  unfold bX5_laysBoth_20
  refine s_iload_n rfl G.b dX5_laysBoth_20 ?_
  refine s_iconst (by decide) G.b dX5_laysBoth_21 ?_
  refine s_icmpge (tgt := 109) G.b dX5_laysBoth_22 (by decide) (tX5_laysBoth_109 EN G hF hC hxt h13 h20 h117 h140 h170) ?_
  refine s_iload_n rfl G.b dX5_laysBoth_25 ?_
  refine s_aload_n rfl G.b dX5_laysBoth_26 ?_
  refine s_getf G.b G.ow G.kn (G.hts _ q1910) (fun _ h => h) fa_73 dX5_laysBoth_27 ?_
  refine s_iconst (by decide) G.b dX5_laysBoth_30 ?_
  refine s_iald G.b G.kn dX5_laysBoth_31 ?_
  refine s_icmpge (tgt := 48) G.b dX5_laysBoth_32 (by decide) (tX5_laysBoth_48 EN G hF hC hxt h13 h20 h117 h140 h170) ?_
  refine s_aload_n rfl G.b dX5_laysBoth_35 ?_
  refine s_getf G.b G.ow G.kn (G.hts _ q1910) (fun _ h => h) fa_73 dX5_laysBoth_36 ?_
  refine s_iconst (by decide) G.b dX5_laysBoth_39 ?_
  refine s_iload_n rfl G.b dX5_laysBoth_40 ?_
  refine s_callS G (mX5_endAt EN) q2044 q2045 q90 q2046 nmk_247 (rm_of hF (Nat.le_of_ble_eq_true rfl) (Nat.le_of_ble_eq_true rfl)) dX5_laysBoth_41 ?_ (sx_out G (fun z hz => (hxt z hz).elim))
  refine s_iald G.b G.kn dX5_laysBoth_44 ?_
  exact s_goto (tgt := 49) G.b dX5_laysBoth_45 (by decide) (tX5_laysBoth_49 EN G hF hC hxt h13 h20 h117 h140 h170)
set_option maxHeartbeats 4000000 in
theorem tX5_laysBoth_13 {x : CX} {E : Nat → Value} {Q : Rs → HS → Prop} {X13 X20 X117 X140 X170 : Ct} (EN : EX x E) (G : Gd x cX5_laysBoth "ChantRulesModel" yX5_laysBoth 5 (Option.none : Option Jvm.ClassFile.FieldType) Q) (hF : x.1.2.2.2.frames = 4 ∧ x.1.2.2.2.locals = 116) (hC : x.2.2.2.2.2 = (fun _ => false)) (hxt : (∀ z ∈ x.2.2.1.2.1.exceptionTable.toList, False)) (h13 : Snd x 13 X13) (h20 : Snd x 20 X20) (h117 : Snd x 117 X117) (h140 : Snd x 140 X140) (h170 : Snd x 170 X170) : Snd x 13 (bX5_laysBoth_13 E Q X13 X20 X117 X140 X170) := by
  unfold bX5_laysBoth_13
  refine s_iload_n rfl G.b dX5_laysBoth_13 ?_
  refine s_iconst (by decide) G.b dX5_laysBoth_14 ?_
  refine s_icmpge (tgt := 115) G.b dX5_laysBoth_15 (by decide) (tX5_laysBoth_115 EN G hF hC hxt h13 h20 h117 h140 h170) ?_
  refine s_iconst (by decide) G.b dX5_laysBoth_18 ?_
  refine s_istore_n rfl G.b (by rw [G.nl]; decide) (fun _ _ => by rw [hC]) dX5_laysBoth_19 ?_
  exact h20
set_option maxHeartbeats 4000000 in
theorem tX5_laysBoth_0 {x : CX} {E : Nat → Value} {Q : Rs → HS → Prop} {X13 X20 X117 X140 X170 : Ct} (EN : EX x E) (G : Gd x cX5_laysBoth "ChantRulesModel" yX5_laysBoth 5 (Option.none : Option Jvm.ClassFile.FieldType) Q) (hF : x.1.2.2.2.frames = 4 ∧ x.1.2.2.2.locals = 116) (hC : x.2.2.2.2.2 = (fun _ => false)) (hxt : (∀ z ∈ x.2.2.1.2.1.exceptionTable.toList, False)) (h13 : Snd x 13 X13) (h20 : Snd x 20 X20) (h117 : Snd x 117 X117) (h140 : Snd x 140 X140) (h170 : Snd x 170 X170) : Snd x 0 (bX5_laysBoth_0 E Q X13 X20 X117 X140 X170) := by
  unfold bX5_laysBoth_0
  refine s_aload_n rfl G.b dX5_laysBoth_0 ?_
  refine s_iconst (by decide) G.b dX5_laysBoth_1 ?_
  refine s_putf G.b G.ow G.kn (G.hts _ q1920) (fun _ h => h) fa_99 (la_cons (r := (RX5, TX5, 37)) G.hts (by decide) rfl q1974 (la_nil)) (by decide +kernel) dX5_laysBoth_2 ?_
  refine s_aload_n rfl G.b dX5_laysBoth_5 ?_
  refine s_bipush (by decide) G.b dX5_laysBoth_6 ?_
  refine s_putf G.b G.ow G.kn (G.hts _ q1921) (fun _ h => h) fa_100 (la_cons (r := (RX5, TX5, 37)) G.hts (by decide) rfl q1976 (la_nil)) (by decide +kernel) dX5_laysBoth_8 ?_
  refine s_iconst (by decide) G.b dX5_laysBoth_11 ?_
  refine s_istore_n rfl G.b (by rw [G.nl]; decide) (fun _ _ => by rw [hC]) dX5_laysBoth_12 ?_
  exact h13
set_option maxHeartbeats 4000000 in
theorem mX5_laysBoth {l : Launch} {D : DE} {s0 : State} {E : Nat → Value} (EN : EV l D s0 E) : rMet l D s0 yX5_laysBoth (ws_ yX5_laysBoth cX5_laysBoth 5 (Option.none : Option Jvm.ClassFile.FieldType)) 4 116 (wX5_laysBoth E) := by
  refine body_met (fun _ => false) EN.kn (fun w h => h) (by decide +kernel) rfl (fun av h Q hw => ?_) ?_
  · unfold wX5_laysBoth at hw
    split at hw
    · exact Nat.le_of_ble_eq_true rfl
    · exact hw.elim
  · intro p e s m below meth c av h Q hxt G hw
    unfold wX5_laysBoth at hw
    split at hw
    · exact tX5_laysBoth_0 EN G ⟨rfl, rfl⟩ rfl hxt (fun _ _ _ h => h) (fun _ _ _ h => h) (fun _ _ _ h => h) (fun _ _ _ h => h) (fun _ _ _ h => h) _ _ _ (hw (AW _ 13) (AW _ 20) (AW _ 117) (AW _ 140) (AW _ 170) (tX5_laysBoth_13 EN G ⟨rfl, rfl⟩ rfl hxt (fun _ _ _ h => h) (fun _ _ _ h => h) (fun _ _ _ h => h) (fun _ _ _ h => h) (fun _ _ _ h => h)) (tX5_laysBoth_20 EN G ⟨rfl, rfl⟩ rfl hxt (fun _ _ _ h => h) (fun _ _ _ h => h) (fun _ _ _ h => h) (fun _ _ _ h => h) (fun _ _ _ h => h)) (tX5_laysBoth_117 EN G ⟨rfl, rfl⟩ rfl hxt (fun _ _ _ h => h) (fun _ _ _ h => h) (fun _ _ _ h => h) (fun _ _ _ h => h) (fun _ _ _ h => h)) (tX5_laysBoth_140 EN G ⟨rfl, rfl⟩ rfl hxt (fun _ _ _ h => h) (fun _ _ _ h => h) (fun _ _ _ h => h) (fun _ _ _ h => h) (fun _ _ _ h => h)) (tX5_laysBoth_170 EN G ⟨rfl, rfl⟩ rfl hxt (fun _ _ _ h => h) (fun _ _ _ h => h) (fun _ _ _ h => h) (fun _ _ _ h => h) (fun _ _ _ h => h)))
    · exact hw.elim
/-! ChantRulesModel.compares(III)I (X5_compares) -/
def bX5_compares_105 (E : Nat → Value) (Q : Rs → HS → Prop) (X3 : Ct) : Ct :=
  o_ireturn .int Q
def bX5_compares_86 (E : Nat → Value) (Q : Rs → HS → Prop) (X3 : Ct) : Ct :=
  o_iload 2 <|
  o_aload 0 <|
  o_getf [8] 25 <|
  o_push (.int 230) <|
  o_iload 3 <|
  o_imul <|
  o_aload 0 <|
  o_getf [8] 23 <|
  o_iload 1 <|
  o_ald [100] <|
  o_iadd <|
  o_ald [100] <|
  o_isub <|
  (bX5_compares_105 E Q X3)
def bX5_compares_77 (E : Nat → Value) (Q : Rs → HS → Prop) (X3 : Ct) : Ct :=
  o_iload 2 <|
  o_push (.int 4) <|
  o_icmpne (bX5_compares_86 E Q X3) <|
  o_push (.int 0) <|
  (bX5_compares_105 E Q X3)
def bX5_compares_71 (E : Nat → Value) (Q : Rs → HS → Prop) (X3 : Ct) : Ct :=
  o_iinc 4 1 <|
  X3
def bX5_compares_3 (E : Nat → Value) (Q : Rs → HS → Prop) (X3 : Ct) : Ct :=
  o_iload 4 <|
  o_aload 0 <|
  o_getf [8] 23 <|
  o_iload 1 <|
  o_ald [100] <|
  o_icmpge (bX5_compares_77 E Q X3) <|
  o_aload 0 <|
  o_getf [8] 25 <|
  o_push (.int 230) <|
  o_iload 1 <|
  o_imul <|
  o_iload 4 <|
  o_iadd <|
  o_ald [100] <|
  o_aload 0 <|
  o_getf [8] 25 <|
  o_push (.int 230) <|
  o_iload 3 <|
  o_imul <|
  o_iload 4 <|
  o_iadd <|
  o_ald [100] <|
  o_icmpeq (bX5_compares_71 E Q X3) <|
  o_aload 0 <|
  o_getf [8] 25 <|
  o_push (.int 230) <|
  o_iload 1 <|
  o_imul <|
  o_iload 4 <|
  o_iadd <|
  o_ald [100] <|
  o_aload 0 <|
  o_getf [8] 25 <|
  o_push (.int 230) <|
  o_iload 3 <|
  o_imul <|
  o_iload 4 <|
  o_iadd <|
  o_ald [100] <|
  o_isub <|
  o_ireturn .int Q
def bX5_compares_0 (E : Nat → Value) (Q : Rs → HS → Prop) (X3 : Ct) : Ct :=
  o_push (.int 0) <|
  o_istore 4 <|
  X3
def wX5_compares (E : Nat → Value) : Wp := fun av h Q => match av with
  | [a0, a1, a2, a3] => ∀ X3 : Ct, (∀ ls st h, bX5_compares_3 E Q X3 ls st h → X3 ls st h) → bX5_compares_0 E Q X3 [a0, a1, a2, a3, jk] [] h
  | _ => False
set_option maxHeartbeats 4000000 in
theorem tX5_compares_105 {x : CX} {E : Nat → Value} {Q : Rs → HS → Prop} {X3 : Ct} (EN : EX x E) (G : Gd x cX5_compares "ChantRulesModel" yX5_compares 5 (Option.some Jvm.ClassFile.FieldType.int) Q) (hF : x.1.2.2.2.frames = 2 ∧ x.1.2.2.2.locals = 64) (hC : x.2.2.2.2.2 = (fun _ => false)) (hxt : (∀ z ∈ x.2.2.1.2.1.exceptionTable.toList, False)) (h3 : Snd x 3 X3) : Snd x 105 (bX5_compares_105 E Q X3) := by
  unfold bX5_compares_105
  exact s_ireturn G dX5_compares_105
set_option maxHeartbeats 4000000 in
theorem tX5_compares_86 {x : CX} {E : Nat → Value} {Q : Rs → HS → Prop} {X3 : Ct} (EN : EX x E) (G : Gd x cX5_compares "ChantRulesModel" yX5_compares 5 (Option.some Jvm.ClassFile.FieldType.int) Q) (hF : x.1.2.2.2.frames = 2 ∧ x.1.2.2.2.locals = 64) (hC : x.2.2.2.2.2 = (fun _ => false)) (hxt : (∀ z ∈ x.2.2.1.2.1.exceptionTable.toList, False)) (h3 : Snd x 3 X3) : Snd x 86 (bX5_compares_86 E Q X3) := by
  unfold bX5_compares_86
  refine s_iload_n rfl G.b dX5_compares_86 ?_
  refine s_aload_n rfl G.b dX5_compares_87 ?_
  refine s_getf G.b G.ow G.kn (G.hts _ q1928) (fun _ h => h) fa_80 dX5_compares_88 ?_
  refine s_sipush (by decide) G.b dX5_compares_91 ?_
  refine s_iload_n rfl G.b dX5_compares_94 ?_
  refine s_imul G.b dX5_compares_95 ?_
  refine s_aload_n rfl G.b dX5_compares_96 ?_
  refine s_getf G.b G.ow G.kn (G.hts _ q1926) (fun _ h => h) fa_78 dX5_compares_97 ?_
  refine s_iload_n rfl G.b dX5_compares_100 ?_
  refine s_iald G.b G.kn dX5_compares_101 ?_
  refine s_iadd G.b dX5_compares_102 ?_
  refine s_iald G.b G.kn dX5_compares_103 ?_
  refine s_isub G.b dX5_compares_104 ?_
  exact (tX5_compares_105 EN G hF hC hxt h3)
set_option maxHeartbeats 4000000 in
theorem tX5_compares_77 {x : CX} {E : Nat → Value} {Q : Rs → HS → Prop} {X3 : Ct} (EN : EX x E) (G : Gd x cX5_compares "ChantRulesModel" yX5_compares 5 (Option.some Jvm.ClassFile.FieldType.int) Q) (hF : x.1.2.2.2.frames = 2 ∧ x.1.2.2.2.locals = 64) (hC : x.2.2.2.2.2 = (fun _ => false)) (hxt : (∀ z ∈ x.2.2.1.2.1.exceptionTable.toList, False)) (h3 : Snd x 3 X3) : Snd x 77 (bX5_compares_77 E Q X3) := by
  unfold bX5_compares_77
  refine s_iload_n rfl G.b dX5_compares_77 ?_
  refine s_iconst (by decide) G.b dX5_compares_78 ?_
  refine s_icmpne (tgt := 86) G.b dX5_compares_79 (by decide) (tX5_compares_86 EN G hF hC hxt h3) ?_
  refine s_iconst (by decide) G.b dX5_compares_82 ?_
  exact s_goto (tgt := 105) G.b dX5_compares_83 (by decide) (tX5_compares_105 EN G hF hC hxt h3)
set_option maxHeartbeats 4000000 in
theorem tX5_compares_71 {x : CX} {E : Nat → Value} {Q : Rs → HS → Prop} {X3 : Ct} (EN : EX x E) (G : Gd x cX5_compares "ChantRulesModel" yX5_compares 5 (Option.some Jvm.ClassFile.FieldType.int) Q) (hF : x.1.2.2.2.frames = 2 ∧ x.1.2.2.2.locals = 64) (hC : x.2.2.2.2.2 = (fun _ => false)) (hxt : (∀ z ∈ x.2.2.1.2.1.exceptionTable.toList, False)) (h3 : Snd x 3 X3) : Snd x 71 (bX5_compares_71 E Q X3) := by
  unfold bX5_compares_71
  refine s_iinc (by decide) G.b (by rw [G.nl]; decide) (fun _ _ => by rw [hC]) dX5_compares_71 ?_
  exact s_goto (tgt := 3) G.b dX5_compares_74 (by decide) h3
set_option maxHeartbeats 4000000 in
theorem tX5_compares_3 {x : CX} {E : Nat → Value} {Q : Rs → HS → Prop} {X3 : Ct} (EN : EX x E) (G : Gd x cX5_compares "ChantRulesModel" yX5_compares 5 (Option.some Jvm.ClassFile.FieldType.int) Q) (hF : x.1.2.2.2.frames = 2 ∧ x.1.2.2.2.locals = 64) (hC : x.2.2.2.2.2 = (fun _ => false)) (hxt : (∀ z ∈ x.2.2.1.2.1.exceptionTable.toList, False)) (h3 : Snd x 3 X3) : Snd x 3 (bX5_compares_3 E Q X3) := by
  unfold bX5_compares_3
  refine s_iload G.b dX5_compares_3 ?_
  refine s_aload_n rfl G.b dX5_compares_5 ?_
  refine s_getf G.b G.ow G.kn (G.hts _ q1926) (fun _ h => h) fa_78 dX5_compares_6 ?_
  refine s_iload_n rfl G.b dX5_compares_9 ?_
  refine s_iald G.b G.kn dX5_compares_10 ?_
  refine s_icmpge (tgt := 77) G.b dX5_compares_11 (by decide) (tX5_compares_77 EN G hF hC hxt h3) ?_
  refine s_aload_n rfl G.b dX5_compares_14 ?_
  refine s_getf G.b G.ow G.kn (G.hts _ q1928) (fun _ h => h) fa_80 dX5_compares_15 ?_
  refine s_sipush (by decide) G.b dX5_compares_18 ?_
  refine s_iload_n rfl G.b dX5_compares_21 ?_
  refine s_imul G.b dX5_compares_22 ?_
  refine s_iload G.b dX5_compares_23 ?_
  refine s_iadd G.b dX5_compares_25 ?_
  refine s_iald G.b G.kn dX5_compares_26 ?_
  refine s_aload_n rfl G.b dX5_compares_27 ?_
  refine s_getf G.b G.ow G.kn (G.hts _ q1928) (fun _ h => h) fa_80 dX5_compares_28 ?_
  refine s_sipush (by decide) G.b dX5_compares_31 ?_
  refine s_iload_n rfl G.b dX5_compares_34 ?_
  refine s_imul G.b dX5_compares_35 ?_
  refine s_iload G.b dX5_compares_36 ?_
  refine s_iadd G.b dX5_compares_38 ?_
  refine s_iald G.b G.kn dX5_compares_39 ?_
  refine s_icmpeq (tgt := 71) G.b dX5_compares_40 (by decide) (tX5_compares_71 EN G hF hC hxt h3) ?_
  refine s_aload_n rfl G.b dX5_compares_43 ?_
  refine s_getf G.b G.ow G.kn (G.hts _ q1928) (fun _ h => h) fa_80 dX5_compares_44 ?_
  refine s_sipush (by decide) G.b dX5_compares_47 ?_
  refine s_iload_n rfl G.b dX5_compares_50 ?_
  refine s_imul G.b dX5_compares_51 ?_
  refine s_iload G.b dX5_compares_52 ?_
  refine s_iadd G.b dX5_compares_54 ?_
  refine s_iald G.b G.kn dX5_compares_55 ?_
  refine s_aload_n rfl G.b dX5_compares_56 ?_
  refine s_getf G.b G.ow G.kn (G.hts _ q1928) (fun _ h => h) fa_80 dX5_compares_57 ?_
  refine s_sipush (by decide) G.b dX5_compares_60 ?_
  refine s_iload_n rfl G.b dX5_compares_63 ?_
  refine s_imul G.b dX5_compares_64 ?_
  refine s_iload G.b dX5_compares_65 ?_
  refine s_iadd G.b dX5_compares_67 ?_
  refine s_iald G.b G.kn dX5_compares_68 ?_
  refine s_isub G.b dX5_compares_69 ?_
  exact s_ireturn G dX5_compares_70
set_option maxHeartbeats 4000000 in
theorem tX5_compares_0 {x : CX} {E : Nat → Value} {Q : Rs → HS → Prop} {X3 : Ct} (EN : EX x E) (G : Gd x cX5_compares "ChantRulesModel" yX5_compares 5 (Option.some Jvm.ClassFile.FieldType.int) Q) (hF : x.1.2.2.2.frames = 2 ∧ x.1.2.2.2.locals = 64) (hC : x.2.2.2.2.2 = (fun _ => false)) (hxt : (∀ z ∈ x.2.2.1.2.1.exceptionTable.toList, False)) (h3 : Snd x 3 X3) : Snd x 0 (bX5_compares_0 E Q X3) := by
  unfold bX5_compares_0
  refine s_iconst (by decide) G.b dX5_compares_0 ?_
  refine s_istore G.b (by rw [G.nl]; decide) (fun _ _ => by rw [hC]) dX5_compares_1 ?_
  exact h3
set_option maxHeartbeats 4000000 in
theorem mX5_compares {l : Launch} {D : DE} {s0 : State} {E : Nat → Value} (EN : EV l D s0 E) : rMet l D s0 yX5_compares (ws_ yX5_compares cX5_compares 5 (Option.some Jvm.ClassFile.FieldType.int)) 2 64 (wX5_compares E) := by
  refine body_met (fun _ => false) EN.kn (fun w h => h) (by decide +kernel) rfl (fun av h Q hw => ?_) ?_
  · unfold wX5_compares at hw
    split at hw
    · exact Nat.le_of_ble_eq_true rfl
    · exact hw.elim
  · intro p e s m below meth c av h Q hxt G hw
    unfold wX5_compares at hw
    split at hw
    · exact tX5_compares_0 EN G ⟨rfl, rfl⟩ rfl hxt (fun _ _ _ h => h) _ _ _ (hw (AW _ 3) (tX5_compares_3 EN G ⟨rfl, rfl⟩ rfl hxt (fun _ _ _ h => h)))
    · exact hw.elim
/-! ChantRulesModel.isLess(IIIII)Z (X5_isLess) -/
theorem nmk_265 : nm_ok yX5_compares 3 := ⟨by decide +kernel, by decide +kernel, by decide +kernel⟩
def bX5_isLess_71 (E : Nat → Value) (Q : Rs → HS → Prop) : Ct :=
  o_ireturn .boolean Q
def bX5_isLess_70 (E : Nat → Value) (Q : Rs → HS → Prop) : Ct :=
  o_push (.int 0) <|
  (bX5_isLess_71 E Q)
def bX5_isLess_66 (E : Nat → Value) (Q : Rs → HS → Prop) : Ct :=
  o_push (.int 1) <|
  (bX5_isLess_71 E Q)
def bX5_isLess_16 (E : Nat → Value) (Q : Rs → HS → Prop) : Ct :=
  o_iadd <|
  o_istore 6 <|
  o_iload 1 <|
  o_iload 4 <|
  o_icmplt (bX5_isLess_66 E Q) <|
  o_iload 1 <|
  o_iload 4 <|
  o_icmpne (bX5_isLess_70 E Q) <|
  o_iload 6 <|
  o_aload 0 <|
  o_getf [8] 23 <|
  o_iload 5 <|
  o_ald [100] <|
  o_icmplt (bX5_isLess_66 E Q) <|
  o_iload 6 <|
  o_aload 0 <|
  o_getf [8] 23 <|
  o_iload 5 <|
  o_ald [100] <|
  o_icmpne (bX5_isLess_70 E Q) <|
  o_aload 0 <|
  o_iload 2 <|
  o_iload 3 <|
  o_iload 5 <|
  o_callV [8] 4 (wX5_compares E) (x_out Q) <|
  o_ifge (bX5_isLess_70 E Q) <|
  (bX5_isLess_66 E Q)
def bX5_isLess_15 (E : Nat → Value) (Q : Rs → HS → Prop) : Ct :=
  o_push (.int 1) <|
  (bX5_isLess_16 E Q)
def bX5_isLess_0 (E : Nat → Value) (Q : Rs → HS → Prop) : Ct :=
  o_aload 0 <|
  o_getf [8] 23 <|
  o_iload 2 <|
  o_ald [100] <|
  o_iload 3 <|
  o_push (.int 4) <|
  o_icmpne (bX5_isLess_15 E Q) <|
  o_push (.int 0) <|
  (bX5_isLess_16 E Q)
def wX5_isLess (E : Nat → Value) : Wp := fun av h Q => match av with
  | [a0, a1, a2, a3, a4, a5] => bX5_isLess_0 E Q [a0, a1, a2, a3, a4, a5, jk] [] h
  | _ => False
set_option maxHeartbeats 4000000 in
theorem tX5_isLess_71 {x : CX} {E : Nat → Value} {Q : Rs → HS → Prop} (EN : EX x E) (G : Gd x cX5_isLess "ChantRulesModel" yX5_isLess 7 (Option.some Jvm.ClassFile.FieldType.boolean) Q) (hF : x.1.2.2.2.frames = 3 ∧ x.1.2.2.2.locals = 88) (hC : x.2.2.2.2.2 = (fun _ => false)) (hxt : (∀ z ∈ x.2.2.1.2.1.exceptionTable.toList, False)) : Snd x 71 (bX5_isLess_71 E Q) := by
  unfold bX5_isLess_71
  exact s_ireturn G dX5_isLess_71
set_option maxHeartbeats 4000000 in
theorem tX5_isLess_70 {x : CX} {E : Nat → Value} {Q : Rs → HS → Prop} (EN : EX x E) (G : Gd x cX5_isLess "ChantRulesModel" yX5_isLess 7 (Option.some Jvm.ClassFile.FieldType.boolean) Q) (hF : x.1.2.2.2.frames = 3 ∧ x.1.2.2.2.locals = 88) (hC : x.2.2.2.2.2 = (fun _ => false)) (hxt : (∀ z ∈ x.2.2.1.2.1.exceptionTable.toList, False)) : Snd x 70 (bX5_isLess_70 E Q) := by
  unfold bX5_isLess_70
  refine s_iconst (by decide) G.b dX5_isLess_70 ?_
  exact (tX5_isLess_71 EN G hF hC hxt)
set_option maxHeartbeats 4000000 in
theorem tX5_isLess_66 {x : CX} {E : Nat → Value} {Q : Rs → HS → Prop} (EN : EX x E) (G : Gd x cX5_isLess "ChantRulesModel" yX5_isLess 7 (Option.some Jvm.ClassFile.FieldType.boolean) Q) (hF : x.1.2.2.2.frames = 3 ∧ x.1.2.2.2.locals = 88) (hC : x.2.2.2.2.2 = (fun _ => false)) (hxt : (∀ z ∈ x.2.2.1.2.1.exceptionTable.toList, False)) : Snd x 66 (bX5_isLess_66 E Q) := by
  unfold bX5_isLess_66
  refine s_iconst (by decide) G.b dX5_isLess_66 ?_
  exact s_goto (tgt := 71) G.b dX5_isLess_67 (by decide) (tX5_isLess_71 EN G hF hC hxt)
set_option maxHeartbeats 4000000 in
theorem tX5_isLess_16 {x : CX} {E : Nat → Value} {Q : Rs → HS → Prop} (EN : EX x E) (G : Gd x cX5_isLess "ChantRulesModel" yX5_isLess 7 (Option.some Jvm.ClassFile.FieldType.boolean) Q) (hF : x.1.2.2.2.frames = 3 ∧ x.1.2.2.2.locals = 88) (hC : x.2.2.2.2.2 = (fun _ => false)) (hxt : (∀ z ∈ x.2.2.1.2.1.exceptionTable.toList, False)) : Snd x 16 (bX5_isLess_16 E Q) := by
  unfold bX5_isLess_16
  refine s_iadd G.b dX5_isLess_16 ?_
  refine s_istore G.b (by rw [G.nl]; decide) (fun _ _ => by rw [hC]) dX5_isLess_17 ?_
  refine s_iload_n rfl G.b dX5_isLess_19 ?_
  refine s_iload G.b dX5_isLess_20 ?_
  refine s_icmplt (tgt := 66) G.b dX5_isLess_22 (by decide) (tX5_isLess_66 EN G hF hC hxt) ?_
  refine s_iload_n rfl G.b dX5_isLess_25 ?_
  refine s_iload G.b dX5_isLess_26 ?_
  refine s_icmpne (tgt := 70) G.b dX5_isLess_28 (by decide) (tX5_isLess_70 EN G hF hC hxt) ?_
  refine s_iload G.b dX5_isLess_31 ?_
  refine s_aload_n rfl G.b dX5_isLess_33 ?_
  refine s_getf G.b G.ow G.kn (G.hts _ q1926) (fun _ h => h) fa_78 dX5_isLess_34 ?_
  refine s_iload G.b dX5_isLess_37 ?_
  refine s_iald G.b G.kn dX5_isLess_39 ?_
  refine s_icmplt (tgt := 66) G.b dX5_isLess_40 (by decide) (tX5_isLess_66 EN G hF hC hxt) ?_
  refine s_iload G.b dX5_isLess_43 ?_
  refine s_aload_n rfl G.b dX5_isLess_45 ?_
  refine s_getf G.b G.ow G.kn (G.hts _ q1926) (fun _ h => h) fa_78 dX5_isLess_46 ?_
  refine s_iload G.b dX5_isLess_49 ?_
  refine s_iald G.b G.kn dX5_isLess_51 ?_
  refine s_icmpne (tgt := 70) G.b dX5_isLess_52 (by decide) (tX5_isLess_70 EN G hF hC hxt) ?_
  refine s_aload_n rfl G.b dX5_isLess_55 ?_
  refine s_iload_n rfl G.b dX5_isLess_56 ?_
  refine s_iload_n rfl G.b dX5_isLess_57 ?_
  refine s_iload G.b dX5_isLess_58 ?_
  refine s_callV G (mX5_compares EN) q2158 q2160 (sel_cons (r := (RX5, TX5, 37)) (by decide) rfl qs55 (sel_nil)) q90 q2161 nmk_265 (rm_of hF (Nat.le_of_ble_eq_true rfl) (Nat.le_of_ble_eq_true rfl)) dX5_isLess_60 ?_ (sx_out G (fun z hz => (hxt z hz).elim))
  refine s_ifge (tgt := 70) G.b dX5_isLess_63 (by decide) (tX5_isLess_70 EN G hF hC hxt) ?_
  exact (tX5_isLess_66 EN G hF hC hxt)
set_option maxHeartbeats 4000000 in
theorem tX5_isLess_15 {x : CX} {E : Nat → Value} {Q : Rs → HS → Prop} (EN : EX x E) (G : Gd x cX5_isLess "ChantRulesModel" yX5_isLess 7 (Option.some Jvm.ClassFile.FieldType.boolean) Q) (hF : x.1.2.2.2.frames = 3 ∧ x.1.2.2.2.locals = 88) (hC : x.2.2.2.2.2 = (fun _ => false)) (hxt : (∀ z ∈ x.2.2.1.2.1.exceptionTable.toList, False)) : Snd x 15 (bX5_isLess_15 E Q) := by
  unfold bX5_isLess_15
  refine s_iconst (by decide) G.b dX5_isLess_15 ?_
  exact (tX5_isLess_16 EN G hF hC hxt)
set_option maxHeartbeats 4000000 in
theorem tX5_isLess_0 {x : CX} {E : Nat → Value} {Q : Rs → HS → Prop} (EN : EX x E) (G : Gd x cX5_isLess "ChantRulesModel" yX5_isLess 7 (Option.some Jvm.ClassFile.FieldType.boolean) Q) (hF : x.1.2.2.2.frames = 3 ∧ x.1.2.2.2.locals = 88) (hC : x.2.2.2.2.2 = (fun _ => false)) (hxt : (∀ z ∈ x.2.2.1.2.1.exceptionTable.toList, False)) : Snd x 0 (bX5_isLess_0 E Q) := by
  unfold bX5_isLess_0
  refine s_aload_n rfl G.b dX5_isLess_0 ?_
  refine s_getf G.b G.ow G.kn (G.hts _ q1926) (fun _ h => h) fa_78 dX5_isLess_1 ?_
  refine s_iload_n rfl G.b dX5_isLess_4 ?_
  refine s_iald G.b G.kn dX5_isLess_5 ?_
  refine s_iload_n rfl G.b dX5_isLess_6 ?_
  refine s_iconst (by decide) G.b dX5_isLess_7 ?_
  refine s_icmpne (tgt := 15) G.b dX5_isLess_8 (by decide) (tX5_isLess_15 EN G hF hC hxt) ?_
  refine s_iconst (by decide) G.b dX5_isLess_11 ?_
  exact s_goto (tgt := 16) G.b dX5_isLess_12 (by decide) (tX5_isLess_16 EN G hF hC hxt)
set_option maxHeartbeats 4000000 in
theorem mX5_isLess {l : Launch} {D : DE} {s0 : State} {E : Nat → Value} (EN : EV l D s0 E) : rMet l D s0 yX5_isLess (ws_ yX5_isLess cX5_isLess 7 (Option.some Jvm.ClassFile.FieldType.boolean)) 3 88 (wX5_isLess E) := by
  refine body_met (fun _ => false) EN.kn (fun w h => h) (by decide +kernel) rfl (fun av h Q hw => ?_) ?_
  · unfold wX5_isLess at hw
    split at hw
    · exact Nat.le_of_ble_eq_true rfl
    · exact hw.elim
  · intro p e s m below meth c av h Q hxt G hw
    unfold wX5_isLess at hw
    split at hw
    · exact tX5_isLess_0 EN G ⟨rfl, rfl⟩ rfl hxt _ _ _ hw
    · exact hw.elim
/-! ChantRulesModel.goes(II)V (X5_goes) -/
theorem nmk_266 : nm_ok yX5_isLess 5 := ⟨by decide +kernel, by decide +kernel, by decide +kernel⟩
def bX5_goes_218 (E : Nat → Value) (Q : Rs → HS → Prop) (X150 : Ct) : Ct :=
  o_aload 0 <|
  o_getf [8] 25 <|
  o_push (.int 230) <|
  o_iload 5 <|
  o_imul <|
  o_aload 0 <|
  o_getf [8] 23 <|
  o_iload 5 <|
  o_ald [100] <|
  o_iadd <|
  o_aload 0 <|
  o_getf [8] 14 <|
  o_iload 2 <|
  o_ald [100] <|
  o_ast [(100, .int)] <|
  o_aload 0 <|
  o_getf [8] 23 <|
  o_iload 5 <|
  o_dup2 <|
  o_ald [100] <|
  o_push (.int 1) <|
  o_iadd <|
  o_ast [(100, .int)] <|
  o_return Q
def bX5_goes_194 (E : Nat → Value) (Q : Rs → HS → Prop) (X150 : Ct) : Ct :=
  o_aload 0 <|
  o_getf [8] 23 <|
  o_iload 5 <|
  o_aload 0 <|
  o_getf [8] 23 <|
  o_iload 1 <|
  o_ald [100] <|
  o_ast [(100, .int)] <|
  o_aload 0 <|
  o_getf [8] 14 <|
  o_iload 2 <|
  o_ald [100] <|
  o_push (.int 4) <|
  o_icmpne (bX5_goes_218 E Q X150) <|
  o_return Q
def bX5_goes_150 (E : Nat → Value) (Q : Rs → HS → Prop) (X150 : Ct) : Ct :=
  o_iload 7 <|
  o_aload 0 <|
  o_getf [8] 23 <|
  o_iload 1 <|
  o_ald [100] <|
  o_icmpge (bX5_goes_194 E Q X150) <|
  o_aload 0 <|
  o_getf [8] 25 <|
  o_push (.int 230) <|
  o_iload 5 <|
  o_imul <|
  o_iload 7 <|
  o_iadd <|
  o_aload 0 <|
  o_getf [8] 25 <|
  o_push (.int 230) <|
  o_iload 1 <|
  o_imul <|
  o_iload 7 <|
  o_iadd <|
  o_ald [100] <|
  o_ast [(100, .int)] <|
  o_iinc 7 1 <|
  X150
def bX5_goes_138 (E : Nat → Value) (Q : Rs → HS → Prop) (X150 : Ct) : Ct :=
  o_aload 0 <|
  o_getf [8] 22 <|
  o_iload 5 <|
  o_iload 6 <|
  o_ast [(100, .int)] <|
  o_push (.int 0) <|
  o_istore 7 <|
  X150
def bX5_goes_137 (E : Nat → Value) (Q : Rs → HS → Prop) (X150 : Ct) : Ct :=
  o_return Q
def bX5_goes_62 (E : Nat → Value) (Q : Rs → HS → Prop) (X150 : Ct) : Ct :=
  o_push (.int 9) <|
  o_aload 0 <|
  o_getf [8] 12 <|
  o_iload 2 <|
  o_ald [100] <|
  o_imul <|
  o_iload 4 <|
  o_iadd <|
  o_istore 5 <|
  o_aload 0 <|
  o_getf [8] 22 <|
  o_iload 1 <|
  o_ald [100] <|
  o_aload 0 <|
  o_getf [8] 15 <|
  o_iload 2 <|
  o_ald [100] <|
  o_iadd <|
  o_istore 6 <|
  o_aload 0 <|
  o_getf [8] 24 <|
  o_iload 5 <|
  o_ald [100] <|
  o_push (.int 1) <|
  o_icmpeq (bX5_goes_137 E Q X150) <|
  o_aload 0 <|
  o_getf [8] 22 <|
  o_iload 5 <|
  o_ald [100] <|
  o_iflt (bX5_goes_138 E Q X150) <|
  o_aload 0 <|
  o_iload 6 <|
  o_iload 1 <|
  o_aload 0 <|
  o_getf [8] 14 <|
  o_iload 2 <|
  o_ald [100] <|
  o_aload 0 <|
  o_getf [8] 22 <|
  o_iload 5 <|
  o_ald [100] <|
  o_iload 5 <|
  o_callV [8] 6 (wX5_isLess E) (x_out Q) <|
  o_ifne (bX5_goes_138 E Q X150) <|
  (bX5_goes_137 E Q X150)
def bX5_goes_61 (E : Nat → Value) (Q : Rs → HS → Prop) (X150 : Ct) : Ct :=
  o_return Q
def bX5_goes_21 (E : Nat → Value) (Q : Rs → HS → Prop) (X150 : Ct) : Ct :=
  o_iadd <|
  o_istore 4 <|
  o_iload 4 <|
  o_aload 0 <|
  o_getf [8] 26 <|
  o_icmpgt (bX5_goes_61 E Q X150) <|
  o_aload 0 <|
  o_getf [8] 13 <|
  o_iload 2 <|
  o_ald [100] <|
  o_push (.int 4) <|
  o_icmpeq (bX5_goes_62 E Q X150) <|
  o_aload 0 <|
  o_getf [8] 21 <|
  o_iload 3 <|
  o_ald [100] <|
  o_push (.int 97) <|
  o_isub <|
  o_aload 0 <|
  o_getf [8] 13 <|
  o_iload 2 <|
  o_ald [100] <|
  o_icmpeq (bX5_goes_62 E Q X150) <|
  (bX5_goes_61 E Q X150)
def bX5_goes_20 (E : Nat → Value) (Q : Rs → HS → Prop) (X150 : Ct) : Ct :=
  o_push (.int 1) <|
  (bX5_goes_21 E Q X150)
def bX5_goes_0 (E : Nat → Value) (Q : Rs → HS → Prop) (X150 : Ct) : Ct :=
  o_iload 1 <|
  o_push (.int 9) <|
  o_irem <|
  o_istore 3 <|
  o_iload 3 <|
  o_aload 0 <|
  o_getf [8] 13 <|
  o_iload 2 <|
  o_ald [100] <|
  o_push (.int 4) <|
  o_icmpne (bX5_goes_20 E Q X150) <|
  o_push (.int 0) <|
  (bX5_goes_21 E Q X150)
def wX5_goes (E : Nat → Value) : Wp := fun av h Q => match av with
  | [a0, a1, a2] => ∀ X150 : Ct, (∀ ls st h, bX5_goes_150 E Q X150 ls st h → X150 ls st h) → bX5_goes_0 E Q X150 [a0, a1, a2, jk, jk, jk, jk, jk] [] h
  | _ => False
set_option maxHeartbeats 4000000 in
theorem tX5_goes_218 {x : CX} {E : Nat → Value} {Q : Rs → HS → Prop} {X150 : Ct} (EN : EX x E) (G : Gd x cX5_goes "ChantRulesModel" yX5_goes 8 (Option.none : Option Jvm.ClassFile.FieldType) Q) (hF : x.1.2.2.2.frames = 4 ∧ x.1.2.2.2.locals = 114) (hC : x.2.2.2.2.2 = (fun _ => false)) (hxt : (∀ z ∈ x.2.2.1.2.1.exceptionTable.toList, False)) (h150 : Snd x 150 X150) : Snd x 218 (bX5_goes_218 E Q X150) := by
  unfold bX5_goes_218
  refine s_aload_n rfl G.b dX5_goes_218 ?_
  refine s_getf G.b G.ow G.kn (G.hts _ q1928) (fun _ h => h) fa_80 dX5_goes_219 ?_
  refine s_sipush (by decide) G.b dX5_goes_222 ?_
  refine s_iload G.b dX5_goes_225 ?_
  refine s_imul G.b dX5_goes_227 ?_
  refine s_aload_n rfl G.b dX5_goes_228 ?_
  refine s_getf G.b G.ow G.kn (G.hts _ q1926) (fun _ h => h) fa_78 dX5_goes_229 ?_
  refine s_iload G.b dX5_goes_232 ?_
  refine s_iald G.b G.kn dX5_goes_234 ?_
  refine s_iadd G.b dX5_goes_235 ?_
  refine s_aload_n rfl G.b dX5_goes_236 ?_
  refine s_getf G.b G.ow G.kn (G.hts _ q1917) (fun _ h => h) fa_90 dX5_goes_237 ?_
  refine s_iload_n rfl G.b dX5_goes_240 ?_
  refine s_iald G.b G.kn dX5_goes_241 ?_
  refine s_iast G.b G.kn dX5_goes_242 ?_
  refine s_aload_n rfl G.b dX5_goes_243 ?_
  refine s_getf G.b G.ow G.kn (G.hts _ q1926) (fun _ h => h) fa_78 dX5_goes_244 ?_
  refine s_iload G.b dX5_goes_247 ?_
  refine s_dup2 G.b dX5_goes_249 ?_
  refine s_iald G.b G.kn dX5_goes_250 ?_
  refine s_iconst (by decide) G.b dX5_goes_251 ?_
  refine s_iadd G.b dX5_goes_252 ?_
  refine s_iast G.b G.kn dX5_goes_253 ?_
  exact s_return G dX5_goes_254
set_option maxHeartbeats 4000000 in
theorem tX5_goes_194 {x : CX} {E : Nat → Value} {Q : Rs → HS → Prop} {X150 : Ct} (EN : EX x E) (G : Gd x cX5_goes "ChantRulesModel" yX5_goes 8 (Option.none : Option Jvm.ClassFile.FieldType) Q) (hF : x.1.2.2.2.frames = 4 ∧ x.1.2.2.2.locals = 114) (hC : x.2.2.2.2.2 = (fun _ => false)) (hxt : (∀ z ∈ x.2.2.1.2.1.exceptionTable.toList, False)) (h150 : Snd x 150 X150) : Snd x 194 (bX5_goes_194 E Q X150) := by
  unfold bX5_goes_194
  refine s_aload_n rfl G.b dX5_goes_194 ?_
  refine s_getf G.b G.ow G.kn (G.hts _ q1926) (fun _ h => h) fa_78 dX5_goes_195 ?_
  refine s_iload G.b dX5_goes_198 ?_
  refine s_aload_n rfl G.b dX5_goes_200 ?_
  refine s_getf G.b G.ow G.kn (G.hts _ q1926) (fun _ h => h) fa_78 dX5_goes_201 ?_
  refine s_iload_n rfl G.b dX5_goes_204 ?_
  refine s_iald G.b G.kn dX5_goes_205 ?_
  refine s_iast G.b G.kn dX5_goes_206 ?_
  refine s_aload_n rfl G.b dX5_goes_207 ?_
  refine s_getf G.b G.ow G.kn (G.hts _ q1917) (fun _ h => h) fa_90 dX5_goes_208 ?_
  refine s_iload_n rfl G.b dX5_goes_211 ?_
  refine s_iald G.b G.kn dX5_goes_212 ?_
  refine s_iconst (by decide) G.b dX5_goes_213 ?_
  refine s_icmpne (tgt := 218) G.b dX5_goes_214 (by decide) (tX5_goes_218 EN G hF hC hxt h150) ?_
  exact s_return G dX5_goes_217
set_option maxHeartbeats 4000000 in
theorem tX5_goes_150 {x : CX} {E : Nat → Value} {Q : Rs → HS → Prop} {X150 : Ct} (EN : EX x E) (G : Gd x cX5_goes "ChantRulesModel" yX5_goes 8 (Option.none : Option Jvm.ClassFile.FieldType) Q) (hF : x.1.2.2.2.frames = 4 ∧ x.1.2.2.2.locals = 114) (hC : x.2.2.2.2.2 = (fun _ => false)) (hxt : (∀ z ∈ x.2.2.1.2.1.exceptionTable.toList, False)) (h150 : Snd x 150 X150) : Snd x 150 (bX5_goes_150 E Q X150) := by
  unfold bX5_goes_150
  refine s_iload G.b dX5_goes_150 ?_
  refine s_aload_n rfl G.b dX5_goes_152 ?_
  refine s_getf G.b G.ow G.kn (G.hts _ q1926) (fun _ h => h) fa_78 dX5_goes_153 ?_
  refine s_iload_n rfl G.b dX5_goes_156 ?_
  refine s_iald G.b G.kn dX5_goes_157 ?_
  refine s_icmpge (tgt := 194) G.b dX5_goes_158 (by decide) (tX5_goes_194 EN G hF hC hxt h150) ?_
  refine s_aload_n rfl G.b dX5_goes_161 ?_
  refine s_getf G.b G.ow G.kn (G.hts _ q1928) (fun _ h => h) fa_80 dX5_goes_162 ?_
  refine s_sipush (by decide) G.b dX5_goes_165 ?_
  refine s_iload G.b dX5_goes_168 ?_
  refine s_imul G.b dX5_goes_170 ?_
  refine s_iload G.b dX5_goes_171 ?_
  refine s_iadd G.b dX5_goes_173 ?_
  refine s_aload_n rfl G.b dX5_goes_174 ?_
  refine s_getf G.b G.ow G.kn (G.hts _ q1928) (fun _ h => h) fa_80 dX5_goes_175 ?_
  refine s_sipush (by decide) G.b dX5_goes_178 ?_
  refine s_iload_n rfl G.b dX5_goes_181 ?_
  refine s_imul G.b dX5_goes_182 ?_
  refine s_iload G.b dX5_goes_183 ?_
  refine s_iadd G.b dX5_goes_185 ?_
  refine s_iald G.b G.kn dX5_goes_186 ?_
  refine s_iast G.b G.kn dX5_goes_187 ?_
  refine s_iinc (by decide) G.b (by rw [G.nl]; decide) (fun _ _ => by rw [hC]) dX5_goes_188 ?_
  exact s_goto (tgt := 150) G.b dX5_goes_191 (by decide) h150
set_option maxHeartbeats 4000000 in
theorem tX5_goes_138 {x : CX} {E : Nat → Value} {Q : Rs → HS → Prop} {X150 : Ct} (EN : EX x E) (G : Gd x cX5_goes "ChantRulesModel" yX5_goes 8 (Option.none : Option Jvm.ClassFile.FieldType) Q) (hF : x.1.2.2.2.frames = 4 ∧ x.1.2.2.2.locals = 114) (hC : x.2.2.2.2.2 = (fun _ => false)) (hxt : (∀ z ∈ x.2.2.1.2.1.exceptionTable.toList, False)) (h150 : Snd x 150 X150) : Snd x 138 (bX5_goes_138 E Q X150) := by
  unfold bX5_goes_138
  refine s_aload_n rfl G.b dX5_goes_138 ?_
  refine s_getf G.b G.ow G.kn (G.hts _ q1925) (fun _ h => h) fa_77 dX5_goes_139 ?_
  refine s_iload G.b dX5_goes_142 ?_
  refine s_iload G.b dX5_goes_144 ?_
  refine s_iast G.b G.kn dX5_goes_146 ?_
  refine s_iconst (by decide) G.b dX5_goes_147 ?_
  refine s_istore G.b (by rw [G.nl]; decide) (fun _ _ => by rw [hC]) dX5_goes_148 ?_
  exact h150
set_option maxHeartbeats 4000000 in
theorem tX5_goes_137 {x : CX} {E : Nat → Value} {Q : Rs → HS → Prop} {X150 : Ct} (EN : EX x E) (G : Gd x cX5_goes "ChantRulesModel" yX5_goes 8 (Option.none : Option Jvm.ClassFile.FieldType) Q) (hF : x.1.2.2.2.frames = 4 ∧ x.1.2.2.2.locals = 114) (hC : x.2.2.2.2.2 = (fun _ => false)) (hxt : (∀ z ∈ x.2.2.1.2.1.exceptionTable.toList, False)) (h150 : Snd x 150 X150) : Snd x 137 (bX5_goes_137 E Q X150) := by
  unfold bX5_goes_137
  exact s_return G dX5_goes_137
set_option maxHeartbeats 4000000 in
theorem tX5_goes_62 {x : CX} {E : Nat → Value} {Q : Rs → HS → Prop} {X150 : Ct} (EN : EX x E) (G : Gd x cX5_goes "ChantRulesModel" yX5_goes 8 (Option.none : Option Jvm.ClassFile.FieldType) Q) (hF : x.1.2.2.2.frames = 4 ∧ x.1.2.2.2.locals = 114) (hC : x.2.2.2.2.2 = (fun _ => false)) (hxt : (∀ z ∈ x.2.2.1.2.1.exceptionTable.toList, False)) (h150 : Snd x 150 X150) : Snd x 62 (bX5_goes_62 E Q X150) := by
  unfold bX5_goes_62
  refine s_bipush (by decide) G.b dX5_goes_62 ?_
  refine s_aload_n rfl G.b dX5_goes_64 ?_
  refine s_getf G.b G.ow G.kn (G.hts _ q1915) (fun _ h => h) fa_88 dX5_goes_65 ?_
  refine s_iload_n rfl G.b dX5_goes_68 ?_
  refine s_iald G.b G.kn dX5_goes_69 ?_
  refine s_imul G.b dX5_goes_70 ?_
  refine s_iload G.b dX5_goes_71 ?_
  refine s_iadd G.b dX5_goes_73 ?_
  refine s_istore G.b (by rw [G.nl]; decide) (fun _ _ => by rw [hC]) dX5_goes_74 ?_
  refine s_aload_n rfl G.b dX5_goes_76 ?_
  refine s_getf G.b G.ow G.kn (G.hts _ q1925) (fun _ h => h) fa_77 dX5_goes_77 ?_
  refine s_iload_n rfl G.b dX5_goes_80 ?_
  refine s_iald G.b G.kn dX5_goes_81 ?_
  refine s_aload_n rfl G.b dX5_goes_82 ?_
  refine s_getf G.b G.ow G.kn (G.hts _ q1918) (fun _ h => h) fa_91 dX5_goes_83 ?_
  refine s_iload_n rfl G.b dX5_goes_86 ?_
  refine s_iald G.b G.kn dX5_goes_87 ?_
  refine s_iadd G.b dX5_goes_88 ?_
  refine s_istore G.b (by rw [G.nl]; decide) (fun _ _ => by rw [hC]) dX5_goes_89 ?_
  refine s_aload_n rfl G.b dX5_goes_91 ?_
  refine s_getf G.b G.ow G.kn (G.hts _ q1927) (fun _ h => h) fa_79 dX5_goes_92 ?_
  refine s_iload G.b dX5_goes_95 ?_
  refine s_iald G.b G.kn dX5_goes_97 ?_
  refine s_iconst (by decide) G.b dX5_goes_98 ?_
  refine s_icmpeq (tgt := 137) G.b dX5_goes_99 (by decide) (tX5_goes_137 EN G hF hC hxt h150) ?_
  refine s_aload_n rfl G.b dX5_goes_102 ?_
  refine s_getf G.b G.ow G.kn (G.hts _ q1925) (fun _ h => h) fa_77 dX5_goes_103 ?_
  refine s_iload G.b dX5_goes_106 ?_
  refine s_iald G.b G.kn dX5_goes_108 ?_
  refine s_iflt (tgt := 138) G.b dX5_goes_109 (by decide) (tX5_goes_138 EN G hF hC hxt h150) ?_
  refine s_aload_n rfl G.b dX5_goes_112 ?_
  refine s_iload G.b dX5_goes_113 ?_
  refine s_iload_n rfl G.b dX5_goes_115 ?_
  refine s_aload_n rfl G.b dX5_goes_116 ?_
  refine s_getf G.b G.ow G.kn (G.hts _ q1917) (fun _ h => h) fa_90 dX5_goes_117 ?_
  refine s_iload_n rfl G.b dX5_goes_120 ?_
  refine s_iald G.b G.kn dX5_goes_121 ?_
  refine s_aload_n rfl G.b dX5_goes_122 ?_
  refine s_getf G.b G.ow G.kn (G.hts _ q1925) (fun _ h => h) fa_77 dX5_goes_123 ?_
  refine s_iload G.b dX5_goes_126 ?_
  refine s_iald G.b G.kn dX5_goes_128 ?_
  refine s_iload G.b dX5_goes_129 ?_
  refine s_callV G (mX5_isLess EN) q2154 q2156 (sel_cons (r := (RX5, TX5, 37)) (by decide) rfl qs54 (sel_nil)) q90 q2157 nmk_266 (rm_of hF (Nat.le_of_ble_eq_true rfl) (Nat.le_of_ble_eq_true rfl)) dX5_goes_131 ?_ (sx_out G (fun z hz => (hxt z hz).elim))
  refine s_ifne (tgt := 138) G.b dX5_goes_134 (by decide) (tX5_goes_138 EN G hF hC hxt h150) ?_
  exact (tX5_goes_137 EN G hF hC hxt h150)
set_option maxHeartbeats 4000000 in
theorem tX5_goes_61 {x : CX} {E : Nat → Value} {Q : Rs → HS → Prop} {X150 : Ct} (EN : EX x E) (G : Gd x cX5_goes "ChantRulesModel" yX5_goes 8 (Option.none : Option Jvm.ClassFile.FieldType) Q) (hF : x.1.2.2.2.frames = 4 ∧ x.1.2.2.2.locals = 114) (hC : x.2.2.2.2.2 = (fun _ => false)) (hxt : (∀ z ∈ x.2.2.1.2.1.exceptionTable.toList, False)) (h150 : Snd x 150 X150) : Snd x 61 (bX5_goes_61 E Q X150) := by
  unfold bX5_goes_61
  exact s_return G dX5_goes_61
set_option maxHeartbeats 4000000 in
theorem tX5_goes_21 {x : CX} {E : Nat → Value} {Q : Rs → HS → Prop} {X150 : Ct} (EN : EX x E) (G : Gd x cX5_goes "ChantRulesModel" yX5_goes 8 (Option.none : Option Jvm.ClassFile.FieldType) Q) (hF : x.1.2.2.2.frames = 4 ∧ x.1.2.2.2.locals = 114) (hC : x.2.2.2.2.2 = (fun _ => false)) (hxt : (∀ z ∈ x.2.2.1.2.1.exceptionTable.toList, False)) (h150 : Snd x 150 X150) : Snd x 21 (bX5_goes_21 E Q X150) := by
  unfold bX5_goes_21
  refine s_iadd G.b dX5_goes_21 ?_
  refine s_istore G.b (by rw [G.nl]; decide) (fun _ _ => by rw [hC]) dX5_goes_22 ?_
  refine s_iload G.b dX5_goes_24 ?_
  refine s_aload_n rfl G.b dX5_goes_26 ?_
  refine s_getf G.b G.ow G.kn (G.hts _ q1929) (fun _ h => h) fa_94 dX5_goes_27 ?_
  refine s_icmpgt (tgt := 61) G.b dX5_goes_30 (by decide) (tX5_goes_61 EN G hF hC hxt h150) ?_
  refine s_aload_n rfl G.b dX5_goes_33 ?_
  refine s_getf G.b G.ow G.kn (G.hts _ q1916) (fun _ h => h) fa_89 dX5_goes_34 ?_
  refine s_iload_n rfl G.b dX5_goes_37 ?_
  refine s_iald G.b G.kn dX5_goes_38 ?_
  refine s_iconst (by decide) G.b dX5_goes_39 ?_
  refine s_icmpeq (tgt := 62) G.b dX5_goes_40 (by decide) (tX5_goes_62 EN G hF hC hxt h150) ?_
  refine s_aload_n rfl G.b dX5_goes_43 ?_
  refine s_getf G.b G.ow G.kn (G.hts _ q1924) (fun _ h => h) fa_76 dX5_goes_44 ?_
  refine s_iload_n rfl G.b dX5_goes_47 ?_
  refine s_iald G.b G.kn dX5_goes_48 ?_
  refine s_bipush (by decide) G.b dX5_goes_49 ?_
  refine s_isub G.b dX5_goes_51 ?_
  refine s_aload_n rfl G.b dX5_goes_52 ?_
  refine s_getf G.b G.ow G.kn (G.hts _ q1916) (fun _ h => h) fa_89 dX5_goes_53 ?_
  refine s_iload_n rfl G.b dX5_goes_56 ?_
  refine s_iald G.b G.kn dX5_goes_57 ?_
  refine s_icmpeq (tgt := 62) G.b dX5_goes_58 (by decide) (tX5_goes_62 EN G hF hC hxt h150) ?_
  exact (tX5_goes_61 EN G hF hC hxt h150)
set_option maxHeartbeats 4000000 in
theorem tX5_goes_20 {x : CX} {E : Nat → Value} {Q : Rs → HS → Prop} {X150 : Ct} (EN : EX x E) (G : Gd x cX5_goes "ChantRulesModel" yX5_goes 8 (Option.none : Option Jvm.ClassFile.FieldType) Q) (hF : x.1.2.2.2.frames = 4 ∧ x.1.2.2.2.locals = 114) (hC : x.2.2.2.2.2 = (fun _ => false)) (hxt : (∀ z ∈ x.2.2.1.2.1.exceptionTable.toList, False)) (h150 : Snd x 150 X150) : Snd x 20 (bX5_goes_20 E Q X150) := by
  unfold bX5_goes_20
  refine s_iconst (by decide) G.b dX5_goes_20 ?_
  exact (tX5_goes_21 EN G hF hC hxt h150)
set_option maxHeartbeats 4000000 in
theorem tX5_goes_0 {x : CX} {E : Nat → Value} {Q : Rs → HS → Prop} {X150 : Ct} (EN : EX x E) (G : Gd x cX5_goes "ChantRulesModel" yX5_goes 8 (Option.none : Option Jvm.ClassFile.FieldType) Q) (hF : x.1.2.2.2.frames = 4 ∧ x.1.2.2.2.locals = 114) (hC : x.2.2.2.2.2 = (fun _ => false)) (hxt : (∀ z ∈ x.2.2.1.2.1.exceptionTable.toList, False)) (h150 : Snd x 150 X150) : Snd x 0 (bX5_goes_0 E Q X150) := by
  unfold bX5_goes_0
  refine s_iload_n rfl G.b dX5_goes_0 ?_
  refine s_bipush (by decide) G.b dX5_goes_1 ?_
  refine s_irem G.b dX5_goes_3 ?_
  refine s_istore_n rfl G.b (by rw [G.nl]; decide) (fun _ _ => by rw [hC]) dX5_goes_4 ?_
  refine s_iload_n rfl G.b dX5_goes_5 ?_
  refine s_aload_n rfl G.b dX5_goes_6 ?_
  refine s_getf G.b G.ow G.kn (G.hts _ q1916) (fun _ h => h) fa_89 dX5_goes_7 ?_
  refine s_iload_n rfl G.b dX5_goes_10 ?_
  refine s_iald G.b G.kn dX5_goes_11 ?_
  refine s_iconst (by decide) G.b dX5_goes_12 ?_
  refine s_icmpne (tgt := 20) G.b dX5_goes_13 (by decide) (tX5_goes_20 EN G hF hC hxt h150) ?_
  refine s_iconst (by decide) G.b dX5_goes_16 ?_
  exact s_goto (tgt := 21) G.b dX5_goes_17 (by decide) (tX5_goes_21 EN G hF hC hxt h150)
set_option maxHeartbeats 4000000 in
theorem mX5_goes {l : Launch} {D : DE} {s0 : State} {E : Nat → Value} (EN : EV l D s0 E) : rMet l D s0 yX5_goes (ws_ yX5_goes cX5_goes 8 (Option.none : Option Jvm.ClassFile.FieldType)) 4 114 (wX5_goes E) := by
  refine body_met (fun _ => false) EN.kn (fun w h => h) (by decide +kernel) rfl (fun av h Q hw => ?_) ?_
  · unfold wX5_goes at hw
    split at hw
    · exact Nat.le_of_ble_eq_true rfl
    · exact hw.elim
  · intro p e s m below meth c av h Q hxt G hw
    unfold wX5_goes at hw
    split at hw
    · exact tX5_goes_0 EN G ⟨rfl, rfl⟩ rfl hxt (fun _ _ _ h => h) _ _ _ (hw (AW _ 150) (tX5_goes_150 EN G ⟨rfl, rfl⟩ rfl hxt (fun _ _ _ h => h)))
    · exact hw.elim
