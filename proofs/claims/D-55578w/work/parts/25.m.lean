set_option maxRecDepth 100000
/-! ChantRules$Rule.ranked(I)I (X3_ranked) -/
theorem nmk_189 : nm_ok yX3_isAhead 2 := ⟨by decide +kernel, by decide +kernel, by decide +kernel⟩
def bX3_ranked_73 (E : Nat → Value) (Q : Rs → HS → Prop) (X2 X18 : Ct) : Ct :=
  o_push (.int (-11)) <|
  o_ireturn .int Q
def bX3_ranked_67 (E : Nat → Value) (Q : Rs → HS → Prop) (X2 X18 : Ct) : Ct :=
  o_iinc 2 1 <|
  X2
def bX3_ranked_60 (E : Nat → Value) (Q : Rs → HS → Prop) (X2 X18 : Ct) : Ct :=
  o_iload 3 <|
  o_iload 1 <|
  o_icmpne (bX3_ranked_67 E Q X2 X18) <|
  o_iload 2 <|
  o_ireturn .int Q
def bX3_ranked_52 (E : Nat → Value) (Q : Rs → HS → Prop) (X2 X18 : Ct) : Ct :=
  o_iadd <|
  o_istore 3 <|
  o_iinc 4 1 <|
  X18
def bX3_ranked_51 (E : Nat → Value) (Q : Rs → HS → Prop) (X2 X18 : Ct) : Ct :=
  o_push (.int 0) <|
  (bX3_ranked_52 E Q X2 X18)
def bX3_ranked_18 (E : Nat → Value) (Q : Rs → HS → Prop) (X2 X18 : Ct) : Ct :=
  o_iload 4 <|
  o_aload 0 <|
  o_getf [2] 0 <|
  o_callV [15] 1 (wJ2_size E) (x_out Q) <|
  o_icmpge (bX3_ranked_60 E Q X2 X18) <|
  o_iload 3 <|
  o_iload 4 <|
  o_iload 2 <|
  o_icmpeq (bX3_ranked_51 E Q X2 X18) <|
  o_aload 0 <|
  o_iload 4 <|
  o_iload 2 <|
  o_callV [2] 3 (wX3_isAhead E) (x_out Q) <|
  o_ifeq (bX3_ranked_51 E Q X2 X18) <|
  o_push (.int 1) <|
  (bX3_ranked_52 E Q X2 X18)
def bX3_ranked_2 (E : Nat → Value) (Q : Rs → HS → Prop) (X2 X18 : Ct) : Ct :=
  o_iload 2 <|
  o_aload 0 <|
  o_getf [2] 0 <|
  o_callV [15] 1 (wJ2_size E) (x_out Q) <|
  o_icmpge (bX3_ranked_73 E Q X2 X18) <|
  o_push (.int 0) <|
  o_istore 3 <|
  o_push (.int 0) <|
  o_istore 4 <|
  X18
def bX3_ranked_0 (E : Nat → Value) (Q : Rs → HS → Prop) (X2 X18 : Ct) : Ct :=
  o_push (.int 0) <|
  o_istore 2 <|
  X2
def wX3_ranked (E : Nat → Value) : Wp := fun av h Q => match av with
  | [a0, a1] => ∀ X2 X18 : Ct, (∀ ls st h, bX3_ranked_2 E Q X2 X18 ls st h → X2 ls st h) → (∀ ls st h, bX3_ranked_18 E Q X2 X18 ls st h → X18 ls st h) → bX3_ranked_0 E Q X2 X18 [a0, a1, jk, jk, jk] [] h
  | _ => False
set_option maxHeartbeats 4000000 in
theorem tX3_ranked_73 {x : CX} {E : Nat → Value} {Q : Rs → HS → Prop} {X2 X18 : Ct} (EN : EX x E) (G : Gd x cX3_ranked "ChantRules$Rule" yX3_ranked 5 (Option.some Jvm.ClassFile.FieldType.int) Q) (hF : x.1.2.2.2.frames = 6 ∧ x.1.2.2.2.locals = 152) (hC : x.2.2.2.2.2 = (fun _ => false)) (hxt : (∀ z ∈ x.2.2.1.2.1.exceptionTable.toList, False)) (h2 : Snd x 2 X2) (h18 : Snd x 18 X18) : Snd x 73 (bX3_ranked_73 E Q X2 X18) := by
  unfold bX3_ranked_73
  refine s_bipush (by decide) G.b dX3_ranked_73 ?_
  exact s_ireturn G dX3_ranked_75
set_option maxHeartbeats 4000000 in
theorem tX3_ranked_67 {x : CX} {E : Nat → Value} {Q : Rs → HS → Prop} {X2 X18 : Ct} (EN : EX x E) (G : Gd x cX3_ranked "ChantRules$Rule" yX3_ranked 5 (Option.some Jvm.ClassFile.FieldType.int) Q) (hF : x.1.2.2.2.frames = 6 ∧ x.1.2.2.2.locals = 152) (hC : x.2.2.2.2.2 = (fun _ => false)) (hxt : (∀ z ∈ x.2.2.1.2.1.exceptionTable.toList, False)) (h2 : Snd x 2 X2) (h18 : Snd x 18 X18) : Snd x 67 (bX3_ranked_67 E Q X2 X18) := by
  unfold bX3_ranked_67
  refine s_iinc (by decide) G.b (by rw [G.nl]; decide) (fun _ _ => by rw [hC]) dX3_ranked_67 ?_
  exact s_goto (tgt := 2) G.b dX3_ranked_70 (by decide) h2
set_option maxHeartbeats 4000000 in
theorem tX3_ranked_60 {x : CX} {E : Nat → Value} {Q : Rs → HS → Prop} {X2 X18 : Ct} (EN : EX x E) (G : Gd x cX3_ranked "ChantRules$Rule" yX3_ranked 5 (Option.some Jvm.ClassFile.FieldType.int) Q) (hF : x.1.2.2.2.frames = 6 ∧ x.1.2.2.2.locals = 152) (hC : x.2.2.2.2.2 = (fun _ => false)) (hxt : (∀ z ∈ x.2.2.1.2.1.exceptionTable.toList, False)) (h2 : Snd x 2 X2) (h18 : Snd x 18 X18) : Snd x 60 (bX3_ranked_60 E Q X2 X18) := by
  unfold bX3_ranked_60
  refine s_iload_n rfl G.b dX3_ranked_60 ?_
  refine s_iload_n rfl G.b dX3_ranked_61 ?_
  refine s_icmpne (tgt := 67) G.b dX3_ranked_62 (by decide) (tX3_ranked_67 EN G hF hC hxt h2 h18) ?_
  refine s_iload_n rfl G.b dX3_ranked_65 ?_
  exact s_ireturn G dX3_ranked_66
set_option maxHeartbeats 4000000 in
theorem tX3_ranked_52 {x : CX} {E : Nat → Value} {Q : Rs → HS → Prop} {X2 X18 : Ct} (EN : EX x E) (G : Gd x cX3_ranked "ChantRules$Rule" yX3_ranked 5 (Option.some Jvm.ClassFile.FieldType.int) Q) (hF : x.1.2.2.2.frames = 6 ∧ x.1.2.2.2.locals = 152) (hC : x.2.2.2.2.2 = (fun _ => false)) (hxt : (∀ z ∈ x.2.2.1.2.1.exceptionTable.toList, False)) (h2 : Snd x 2 X2) (h18 : Snd x 18 X18) : Snd x 52 (bX3_ranked_52 E Q X2 X18) := by
  unfold bX3_ranked_52
  refine s_iadd G.b dX3_ranked_52 ?_
  refine s_istore_n rfl G.b (by rw [G.nl]; decide) (fun _ _ => by rw [hC]) dX3_ranked_53 ?_
  refine s_iinc (by decide) G.b (by rw [G.nl]; decide) (fun _ _ => by rw [hC]) dX3_ranked_54 ?_
  exact s_goto (tgt := 18) G.b dX3_ranked_57 (by decide) h18
set_option maxHeartbeats 4000000 in
theorem tX3_ranked_51 {x : CX} {E : Nat → Value} {Q : Rs → HS → Prop} {X2 X18 : Ct} (EN : EX x E) (G : Gd x cX3_ranked "ChantRules$Rule" yX3_ranked 5 (Option.some Jvm.ClassFile.FieldType.int) Q) (hF : x.1.2.2.2.frames = 6 ∧ x.1.2.2.2.locals = 152) (hC : x.2.2.2.2.2 = (fun _ => false)) (hxt : (∀ z ∈ x.2.2.1.2.1.exceptionTable.toList, False)) (h2 : Snd x 2 X2) (h18 : Snd x 18 X18) : Snd x 51 (bX3_ranked_51 E Q X2 X18) := by
  unfold bX3_ranked_51
  refine s_iconst (by decide) G.b dX3_ranked_51 ?_
  exact (tX3_ranked_52 EN G hF hC hxt h2 h18)
set_option maxHeartbeats 4000000 in
theorem tX3_ranked_18 {x : CX} {E : Nat → Value} {Q : Rs → HS → Prop} {X2 X18 : Ct} (EN : EX x E) (G : Gd x cX3_ranked "ChantRules$Rule" yX3_ranked 5 (Option.some Jvm.ClassFile.FieldType.int) Q) (hF : x.1.2.2.2.frames = 6 ∧ x.1.2.2.2.locals = 152) (hC : x.2.2.2.2.2 = (fun _ => false)) (hxt : (∀ z ∈ x.2.2.1.2.1.exceptionTable.toList, False)) (h2 : Snd x 2 X2) (h18 : Snd x 18 X18) : Snd x 18 (bX3_ranked_18 E Q X2 X18) := by
  unfold bX3_ranked_18
  refine s_iload G.b dX3_ranked_18 ?_
  refine s_aload_n rfl G.b dX3_ranked_20 ?_
  refine s_getf G.b G.ow G.kn (G.hts _ q175) (fun _ h => h) fa_3 dX3_ranked_21 ?_
  refine s_callV G (mJ2_size EN) q688 q689 (sel_cons (r := (RJ2, TJ2, 3)) (by decide) rfl q690 (sel_nil)) q82 q691 nmk_28 (rm_of hF (Nat.le_of_ble_eq_true rfl) (Nat.le_of_ble_eq_true rfl)) dX3_ranked_24 ?_ (sx_out G (fun z hz => (hxt z hz).elim))
  refine s_icmpge (tgt := 60) G.b dX3_ranked_27 (by decide) (tX3_ranked_60 EN G hF hC hxt h2 h18) ?_
  refine s_iload_n rfl G.b dX3_ranked_30 ?_
  refine s_iload G.b dX3_ranked_31 ?_
  refine s_iload_n rfl G.b dX3_ranked_33 ?_
  refine s_icmpeq (tgt := 51) G.b dX3_ranked_34 (by decide) (tX3_ranked_51 EN G hF hC hxt h2 h18) ?_
  refine s_aload_n rfl G.b dX3_ranked_37 ?_
  refine s_iload G.b dX3_ranked_38 ?_
  refine s_iload_n rfl G.b dX3_ranked_40 ?_
  refine s_callV G (mX3_isAhead EN) q1417 q1419 (sel_cons (r := (RX3, TX3, 3)) (by decide) rfl qs21 (sel_nil)) q79 q1420 nmk_189 (rm_of hF (Nat.le_of_ble_eq_true rfl) (Nat.le_of_ble_eq_true rfl)) dX3_ranked_41 ?_ (sx_out G (fun z hz => (hxt z hz).elim))
  refine s_ifeq (tgt := 51) G.b dX3_ranked_44 (by decide) (tX3_ranked_51 EN G hF hC hxt h2 h18) ?_
  refine s_iconst (by decide) G.b dX3_ranked_47 ?_
  exact s_goto (tgt := 52) G.b dX3_ranked_48 (by decide) (tX3_ranked_52 EN G hF hC hxt h2 h18)
set_option maxHeartbeats 4000000 in
theorem tX3_ranked_2 {x : CX} {E : Nat → Value} {Q : Rs → HS → Prop} {X2 X18 : Ct} (EN : EX x E) (G : Gd x cX3_ranked "ChantRules$Rule" yX3_ranked 5 (Option.some Jvm.ClassFile.FieldType.int) Q) (hF : x.1.2.2.2.frames = 6 ∧ x.1.2.2.2.locals = 152) (hC : x.2.2.2.2.2 = (fun _ => false)) (hxt : (∀ z ∈ x.2.2.1.2.1.exceptionTable.toList, False)) (h2 : Snd x 2 X2) (h18 : Snd x 18 X18) : Snd x 2 (bX3_ranked_2 E Q X2 X18) := by
  unfold bX3_ranked_2
  refine s_iload_n rfl G.b dX3_ranked_2 ?_
  refine s_aload_n rfl G.b dX3_ranked_3 ?_
  refine s_getf G.b G.ow G.kn (G.hts _ q175) (fun _ h => h) fa_3 dX3_ranked_4 ?_
  refine s_callV G (mJ2_size EN) q688 q689 (sel_cons (r := (RJ2, TJ2, 3)) (by decide) rfl q690 (sel_nil)) q82 q691 nmk_28 (rm_of hF (Nat.le_of_ble_eq_true rfl) (Nat.le_of_ble_eq_true rfl)) dX3_ranked_7 ?_ (sx_out G (fun z hz => (hxt z hz).elim))
  refine s_icmpge (tgt := 73) G.b dX3_ranked_10 (by decide) (tX3_ranked_73 EN G hF hC hxt h2 h18) ?_
  refine s_iconst (by decide) G.b dX3_ranked_13 ?_
  refine s_istore_n rfl G.b (by rw [G.nl]; decide) (fun _ _ => by rw [hC]) dX3_ranked_14 ?_
  refine s_iconst (by decide) G.b dX3_ranked_15 ?_
  refine s_istore G.b (by rw [G.nl]; decide) (fun _ _ => by rw [hC]) dX3_ranked_16 ?_
  exact h18
set_option maxHeartbeats 4000000 in
theorem tX3_ranked_0 {x : CX} {E : Nat → Value} {Q : Rs → HS → Prop} {X2 X18 : Ct} (EN : EX x E) (G : Gd x cX3_ranked "ChantRules$Rule" yX3_ranked 5 (Option.some Jvm.ClassFile.FieldType.int) Q) (hF : x.1.2.2.2.frames = 6 ∧ x.1.2.2.2.locals = 152) (hC : x.2.2.2.2.2 = (fun _ => false)) (hxt : (∀ z ∈ x.2.2.1.2.1.exceptionTable.toList, False)) (h2 : Snd x 2 X2) (h18 : Snd x 18 X18) : Snd x 0 (bX3_ranked_0 E Q X2 X18) := by
  unfold bX3_ranked_0
  refine s_iconst (by decide) G.b dX3_ranked_0 ?_
  refine s_istore_n rfl G.b (by rw [G.nl]; decide) (fun _ _ => by rw [hC]) dX3_ranked_1 ?_
  exact h2
set_option maxHeartbeats 4000000 in
theorem mX3_ranked {l : Launch} {D : DE} {s0 : State} {E : Nat → Value} (EN : EV l D s0 E) : rMet l D s0 yX3_ranked (ws_ yX3_ranked cX3_ranked 5 (Option.some Jvm.ClassFile.FieldType.int)) 6 152 (wX3_ranked E) := by
  refine body_met (fun _ => false) EN.kn (fun w h => h) (by decide +kernel) rfl (fun av h Q hw => ?_) ?_
  · unfold wX3_ranked at hw
    split at hw
    · exact Nat.le_of_ble_eq_true rfl
    · exact hw.elim
  · intro p e s m below meth c av h Q hxt G hw
    unfold wX3_ranked at hw
    split at hw
    · exact tX3_ranked_0 EN G ⟨rfl, rfl⟩ rfl hxt (fun _ _ _ h => h) (fun _ _ _ h => h) _ _ _ (hw (AW _ 2) (AW _ 18) (tX3_ranked_2 EN G ⟨rfl, rfl⟩ rfl hxt (fun _ _ _ h => h) (fun _ _ _ h => h)) (tX3_ranked_18 EN G ⟨rfl, rfl⟩ rfl hxt (fun _ _ _ h => h) (fun _ _ _ h => h)))
    · exact hw.elim
/-! ChantRules.ranked(II)I (X0_ranked) -/
theorem nmk_190 : nm_ok yX3_ranked 1 := ⟨by decide +kernel, by decide +kernel, by decide +kernel⟩
def bX0_ranked_25 (E : Nat → Value) (Q : Rs → HS → Prop) : Ct :=
  o_ireturn .int Q
def bX0_ranked_23 (E : Nat → Value) (Q : Rs → HS → Prop) : Ct :=
  o_push (.int (-11)) <|
  (bX0_ranked_25 E Q)
def bX0_ranked_0 (E : Nat → Value) (Q : Rs → HS → Prop) : Ct :=
  o_iload 1 <|
  o_call 1 (wX0_isRule E) (x_out Q) <|
  o_ifeq (bX0_ranked_23 E Q) <|
  o_aload 0 <|
  o_getf [0] 1 <|
  o_getf [1] 0 <|
  o_iload 1 <|
  o_ald [103, 104, 105, 106, 107] <|
  o_iload 2 <|
  o_callV [2] 2 (wX3_ranked E) (x_out Q) <|
  (bX0_ranked_25 E Q)
def wX0_ranked (E : Nat → Value) : Wp := fun av h Q => match av with
  | [a0, a1, a2] => bX0_ranked_0 E Q [a0, a1, a2] [] h
  | _ => False
set_option maxHeartbeats 4000000 in
theorem tX0_ranked_25 {x : CX} {E : Nat → Value} {Q : Rs → HS → Prop} (EN : EX x E) (G : Gd x cX0_ranked "ChantRules" yX0_ranked 3 (Option.some Jvm.ClassFile.FieldType.int) Q) (hF : x.1.2.2.2.frames = 7 ∧ x.1.2.2.2.locals = 176) (hC : x.2.2.2.2.2 = (fun _ => false)) (hxt : (∀ z ∈ x.2.2.1.2.1.exceptionTable.toList, False)) : Snd x 25 (bX0_ranked_25 E Q) := by
  unfold bX0_ranked_25
  exact s_ireturn G dX0_ranked_25
set_option maxHeartbeats 4000000 in
theorem tX0_ranked_23 {x : CX} {E : Nat → Value} {Q : Rs → HS → Prop} (EN : EX x E) (G : Gd x cX0_ranked "ChantRules" yX0_ranked 3 (Option.some Jvm.ClassFile.FieldType.int) Q) (hF : x.1.2.2.2.frames = 7 ∧ x.1.2.2.2.locals = 176) (hC : x.2.2.2.2.2 = (fun _ => false)) (hxt : (∀ z ∈ x.2.2.1.2.1.exceptionTable.toList, False)) : Snd x 23 (bX0_ranked_23 E Q) := by
  unfold bX0_ranked_23
  refine s_bipush (by decide) G.b dX0_ranked_23 ?_
  exact (tX0_ranked_25 EN G hF hC hxt)
set_option maxHeartbeats 4000000 in
theorem tX0_ranked_0 {x : CX} {E : Nat → Value} {Q : Rs → HS → Prop} (EN : EX x E) (G : Gd x cX0_ranked "ChantRules" yX0_ranked 3 (Option.some Jvm.ClassFile.FieldType.int) Q) (hF : x.1.2.2.2.frames = 7 ∧ x.1.2.2.2.locals = 176) (hC : x.2.2.2.2.2 = (fun _ => false)) (hxt : (∀ z ∈ x.2.2.1.2.1.exceptionTable.toList, False)) : Snd x 0 (bX0_ranked_0 E Q) := by
  unfold bX0_ranked_0
  refine s_iload_n rfl G.b dX0_ranked_0 ?_
  refine s_callS G (mX0_isRule EN) q336 q337 q76 q338 nmk_66 (rm_of hF (Nat.le_of_ble_eq_true rfl) (Nat.le_of_ble_eq_true rfl)) dX0_ranked_1 ?_ (sx_out G (fun z hz => (hxt z hz).elim))
  refine s_ifeq (tgt := 23) G.b dX0_ranked_4 (by decide) (tX0_ranked_23 EN G hF hC hxt) ?_
  refine s_aload_n rfl G.b dX0_ranked_7 ?_
  refine s_getf G.b G.ow G.kn (G.hts _ q300) (fun _ h => h) fa_11 dX0_ranked_8 ?_
  refine s_getfN G.b G.ow G.kn (va_Nw.use rfl (va_Nw.warmF G.warm (EN.nw q194 rfl))) (fun _ h => h) fa_5 dX0_ranked_11 ?_
  refine s_iload_n rfl G.b dX0_ranked_14 ?_
  refine s_aald G.b G.kn dX0_ranked_15 ?_
  refine s_iload_n rfl G.b dX0_ranked_16 ?_
  refine s_callV G (mX3_ranked EN) q1413 q1414 (sel_cons (r := (RX3, TX3, 3)) (by decide) rfl q1415 (sel_nil)) q79 q1416 nmk_190 (rm_of hF (Nat.le_of_ble_eq_true rfl) (Nat.le_of_ble_eq_true rfl)) dX0_ranked_17 ?_ (sx_out G (fun z hz => (hxt z hz).elim))
  exact s_goto (tgt := 25) G.b dX0_ranked_20 (by decide) (tX0_ranked_25 EN G hF hC hxt)
set_option maxHeartbeats 4000000 in
theorem mX0_ranked {l : Launch} {D : DE} {s0 : State} {E : Nat → Value} (EN : EV l D s0 E) : rMet l D s0 yX0_ranked (ws_ yX0_ranked cX0_ranked 3 (Option.some Jvm.ClassFile.FieldType.int)) 7 176 (wX0_ranked E) := by
  refine body_met (fun _ => false) EN.kn (fun w h => h) (by decide +kernel) rfl (fun av h Q hw => ?_) ?_
  · unfold wX0_ranked at hw
    split at hw
    · exact Nat.le_of_ble_eq_true rfl
    · exact hw.elim
  · intro p e s m below meth c av h Q hxt G hw
    unfold wX0_ranked at hw
    split at hw
    · exact tX0_ranked_0 EN G ⟨rfl, rfl⟩ rfl hxt _ _ _ hw
    · exact hw.elim
/-! ChantRules.reason(ZZ)I (X0_reason) -/
def bX0_reason_61 (E : Nat → Value) (Q : Rs → HS → Prop) : Ct :=
  o_ireturn .int Q
def bX0_reason_57 (E : Nat → Value) (Q : Rs → HS → Prop) : Ct :=
  o_aload 0 <|
  o_getf [0] 4 <|
  (bX0_reason_61 E Q)
def bX0_reason_46 (E : Nat → Value) (Q : Rs → HS → Prop) : Ct :=
  o_iload 2 <|
  o_ifeq (bX0_reason_57 E Q) <|
  o_aload 0 <|
  o_getf [0] 5 <|
  (bX0_reason_61 E Q)
def bX0_reason_39 (E : Nat → Value) (Q : Rs → HS → Prop) : Ct :=
  o_aload 0 <|
  o_getf [0] 6 <|
  (bX0_reason_61 E Q)
def bX0_reason_24 (E : Nat → Value) (Q : Rs → HS → Prop) : Ct :=
  o_iload 1 <|
  o_ifeq (bX0_reason_46 E Q) <|
  o_iload 2 <|
  o_ifeq (bX0_reason_39 E Q) <|
  o_aload 0 <|
  o_getf [0] 7 <|
  (bX0_reason_61 E Q)
def bX0_reason_21 (E : Nat → Value) (Q : Rs → HS → Prop) : Ct :=
  o_push (.int (-15)) <|
  o_ireturn .int Q
def bX0_reason_14 (E : Nat → Value) (Q : Rs → HS → Prop) : Ct :=
  o_aload 0 <|
  o_getf [0] 4 <|
  o_ifne (bX0_reason_24 E Q) <|
  (bX0_reason_21 E Q)
def bX0_reason_0 (E : Nat → Value) (Q : Rs → HS → Prop) : Ct :=
  o_iload 1 <|
  o_ifeq (bX0_reason_14 E Q) <|
  o_aload 0 <|
  o_getf [0] 6 <|
  o_ifne (bX0_reason_24 E Q) <|
  (bX0_reason_21 E Q)
def wX0_reason (E : Nat → Value) : Wp := fun av h Q => match av with
  | [a0, a1, a2] => bX0_reason_0 E Q [a0, a1, a2] [] h
  | _ => False
set_option maxHeartbeats 4000000 in
theorem tX0_reason_61 {x : CX} {E : Nat → Value} {Q : Rs → HS → Prop} (EN : EX x E) (G : Gd x cX0_reason "ChantRules" yX0_reason 3 (Option.some Jvm.ClassFile.FieldType.int) Q) (hF : x.1.2.2.2.frames = 2 ∧ x.1.2.2.2.locals = 64) (hC : x.2.2.2.2.2 = (fun _ => false)) (hxt : (∀ z ∈ x.2.2.1.2.1.exceptionTable.toList, False)) : Snd x 61 (bX0_reason_61 E Q) := by
  unfold bX0_reason_61
  exact s_ireturn G dX0_reason_61
set_option maxHeartbeats 4000000 in
theorem tX0_reason_57 {x : CX} {E : Nat → Value} {Q : Rs → HS → Prop} (EN : EX x E) (G : Gd x cX0_reason "ChantRules" yX0_reason 3 (Option.some Jvm.ClassFile.FieldType.int) Q) (hF : x.1.2.2.2.frames = 2 ∧ x.1.2.2.2.locals = 64) (hC : x.2.2.2.2.2 = (fun _ => false)) (hxt : (∀ z ∈ x.2.2.1.2.1.exceptionTable.toList, False)) : Snd x 57 (bX0_reason_57 E Q) := by
  unfold bX0_reason_57
  refine s_aload_n rfl G.b dX0_reason_57 ?_
  refine s_getf G.b G.ow G.kn (G.hts _ q303) (fun _ h => h) fa_36 dX0_reason_58 ?_
  exact (tX0_reason_61 EN G hF hC hxt)
set_option maxHeartbeats 4000000 in
theorem tX0_reason_46 {x : CX} {E : Nat → Value} {Q : Rs → HS → Prop} (EN : EX x E) (G : Gd x cX0_reason "ChantRules" yX0_reason 3 (Option.some Jvm.ClassFile.FieldType.int) Q) (hF : x.1.2.2.2.frames = 2 ∧ x.1.2.2.2.locals = 64) (hC : x.2.2.2.2.2 = (fun _ => false)) (hxt : (∀ z ∈ x.2.2.1.2.1.exceptionTable.toList, False)) : Snd x 46 (bX0_reason_46 E Q) := by
  unfold bX0_reason_46
  refine s_iload_n rfl G.b dX0_reason_46 ?_
  refine s_ifeq (tgt := 57) G.b dX0_reason_47 (by decide) (tX0_reason_57 EN G hF hC hxt) ?_
  refine s_aload_n rfl G.b dX0_reason_50 ?_
  refine s_getf G.b G.ow G.kn (G.hts _ q304) (fun _ h => h) fa_38 dX0_reason_51 ?_
  exact s_goto (tgt := 61) G.b dX0_reason_54 (by decide) (tX0_reason_61 EN G hF hC hxt)
set_option maxHeartbeats 4000000 in
theorem tX0_reason_39 {x : CX} {E : Nat → Value} {Q : Rs → HS → Prop} (EN : EX x E) (G : Gd x cX0_reason "ChantRules" yX0_reason 3 (Option.some Jvm.ClassFile.FieldType.int) Q) (hF : x.1.2.2.2.frames = 2 ∧ x.1.2.2.2.locals = 64) (hC : x.2.2.2.2.2 = (fun _ => false)) (hxt : (∀ z ∈ x.2.2.1.2.1.exceptionTable.toList, False)) : Snd x 39 (bX0_reason_39 E Q) := by
  unfold bX0_reason_39
  refine s_aload_n rfl G.b dX0_reason_39 ?_
  refine s_getf G.b G.ow G.kn (G.hts _ q305) (fun _ h => h) fa_39 dX0_reason_40 ?_
  exact s_goto (tgt := 61) G.b dX0_reason_43 (by decide) (tX0_reason_61 EN G hF hC hxt)
set_option maxHeartbeats 4000000 in
theorem tX0_reason_24 {x : CX} {E : Nat → Value} {Q : Rs → HS → Prop} (EN : EX x E) (G : Gd x cX0_reason "ChantRules" yX0_reason 3 (Option.some Jvm.ClassFile.FieldType.int) Q) (hF : x.1.2.2.2.frames = 2 ∧ x.1.2.2.2.locals = 64) (hC : x.2.2.2.2.2 = (fun _ => false)) (hxt : (∀ z ∈ x.2.2.1.2.1.exceptionTable.toList, False)) : Snd x 24 (bX0_reason_24 E Q) := by
  unfold bX0_reason_24
  refine s_iload_n rfl G.b dX0_reason_24 ?_
  refine s_ifeq (tgt := 46) G.b dX0_reason_25 (by decide) (tX0_reason_46 EN G hF hC hxt) ?_
  refine s_iload_n rfl G.b dX0_reason_28 ?_
  refine s_ifeq (tgt := 39) G.b dX0_reason_29 (by decide) (tX0_reason_39 EN G hF hC hxt) ?_
  refine s_aload_n rfl G.b dX0_reason_32 ?_
  refine s_getf G.b G.ow G.kn (G.hts _ q306) (fun _ h => h) fa_40 dX0_reason_33 ?_
  exact s_goto (tgt := 61) G.b dX0_reason_36 (by decide) (tX0_reason_61 EN G hF hC hxt)
set_option maxHeartbeats 4000000 in
theorem tX0_reason_21 {x : CX} {E : Nat → Value} {Q : Rs → HS → Prop} (EN : EX x E) (G : Gd x cX0_reason "ChantRules" yX0_reason 3 (Option.some Jvm.ClassFile.FieldType.int) Q) (hF : x.1.2.2.2.frames = 2 ∧ x.1.2.2.2.locals = 64) (hC : x.2.2.2.2.2 = (fun _ => false)) (hxt : (∀ z ∈ x.2.2.1.2.1.exceptionTable.toList, False)) : Snd x 21 (bX0_reason_21 E Q) := by
  unfold bX0_reason_21
  refine s_bipush (by decide) G.b dX0_reason_21 ?_
  exact s_ireturn G dX0_reason_23
set_option maxHeartbeats 4000000 in
theorem tX0_reason_14 {x : CX} {E : Nat → Value} {Q : Rs → HS → Prop} (EN : EX x E) (G : Gd x cX0_reason "ChantRules" yX0_reason 3 (Option.some Jvm.ClassFile.FieldType.int) Q) (hF : x.1.2.2.2.frames = 2 ∧ x.1.2.2.2.locals = 64) (hC : x.2.2.2.2.2 = (fun _ => false)) (hxt : (∀ z ∈ x.2.2.1.2.1.exceptionTable.toList, False)) : Snd x 14 (bX0_reason_14 E Q) := by
  unfold bX0_reason_14
  refine s_aload_n rfl G.b dX0_reason_14 ?_
  refine s_getf G.b G.ow G.kn (G.hts _ q303) (fun _ h => h) fa_36 dX0_reason_15 ?_
  refine s_ifne (tgt := 24) G.b dX0_reason_18 (by decide) (tX0_reason_24 EN G hF hC hxt) ?_
  exact (tX0_reason_21 EN G hF hC hxt)
set_option maxHeartbeats 4000000 in
theorem tX0_reason_0 {x : CX} {E : Nat → Value} {Q : Rs → HS → Prop} (EN : EX x E) (G : Gd x cX0_reason "ChantRules" yX0_reason 3 (Option.some Jvm.ClassFile.FieldType.int) Q) (hF : x.1.2.2.2.frames = 2 ∧ x.1.2.2.2.locals = 64) (hC : x.2.2.2.2.2 = (fun _ => false)) (hxt : (∀ z ∈ x.2.2.1.2.1.exceptionTable.toList, False)) : Snd x 0 (bX0_reason_0 E Q) := by
  unfold bX0_reason_0
  refine s_iload_n rfl G.b dX0_reason_0 ?_
  refine s_ifeq (tgt := 14) G.b dX0_reason_1 (by decide) (tX0_reason_14 EN G hF hC hxt) ?_
  refine s_aload_n rfl G.b dX0_reason_4 ?_
  refine s_getf G.b G.ow G.kn (G.hts _ q305) (fun _ h => h) fa_39 dX0_reason_5 ?_
  refine s_ifne (tgt := 24) G.b dX0_reason_8 (by decide) (tX0_reason_24 EN G hF hC hxt) ?_
  exact s_goto (tgt := 21) G.b dX0_reason_11 (by decide) (tX0_reason_21 EN G hF hC hxt)
set_option maxHeartbeats 4000000 in
theorem mX0_reason {l : Launch} {D : DE} {s0 : State} {E : Nat → Value} (EN : EV l D s0 E) : rMet l D s0 yX0_reason (ws_ yX0_reason cX0_reason 3 (Option.some Jvm.ClassFile.FieldType.int)) 2 64 (wX0_reason E) := by
  refine body_met (fun _ => false) EN.kn (fun w h => h) (by decide +kernel) rfl (fun av h Q hw => ?_) ?_
  · unfold wX0_reason at hw
    split at hw
    · exact Nat.le_of_ble_eq_true rfl
    · exact hw.elim
  · intro p e s m below meth c av h Q hxt G hw
    unfold wX0_reason at hw
    split at hw
    · exact tX0_reason_0 EN G ⟨rfl, rfl⟩ rfl hxt _ _ _ hw
    · exact hw.elim
/-! java/util/ArrayDeque.circularClear([Ljava/lang/Object;II)V (J3_circularClear) -/
def bJ3_circularClear_42 (E : Nat → Value) (Q : Rs → HS → Prop) (X12 : Ct) : Ct :=
  o_return Q
def bJ3_circularClear_35 (E : Nat → Value) (Q : Rs → HS → Prop) (X12 : Ct) : Ct :=
  o_push (.int 0) <|
  o_istore 1 <|
  o_iload 2 <|
  o_istore 3 <|
  X12
def bJ3_circularClear_27 (E : Nat → Value) (Q : Rs → HS → Prop) (X12 : Ct) : Ct :=
  o_iload 3 <|
  o_iload 2 <|
  o_icmpne (bJ3_circularClear_35 E Q X12) <|
  (bJ3_circularClear_42 E Q X12)
def bJ3_circularClear_12 (E : Nat → Value) (Q : Rs → HS → Prop) (X12 : Ct) : Ct :=
  o_iload 1 <|
  o_iload 3 <|
  o_icmpge (bJ3_circularClear_27 E Q X12) <|
  o_aload 0 <|
  o_iload 1 <|
  o_push .null <|
  o_aast <|
  o_iinc 1 1 <|
  X12
def bJ3_circularClear_11 (E : Nat → Value) (Q : Rs → HS → Prop) (X12 : Ct) : Ct :=
  o_istore 3 <|
  X12
def bJ3_circularClear_9 (E : Nat → Value) (Q : Rs → HS → Prop) (X12 : Ct) : Ct :=
  o_aload 0 <|
  o_alen <|
  (bJ3_circularClear_11 E Q X12)
def bJ3_circularClear_0 (E : Nat → Value) (Q : Rs → HS → Prop) (X12 : Ct) : Ct :=
  o_iload 1 <|
  o_iload 2 <|
  o_icmpgt (bJ3_circularClear_9 E Q X12) <|
  o_iload 2 <|
  (bJ3_circularClear_11 E Q X12)
def wJ3_circularClear (E : Nat → Value) : Wp := fun av h Q => match av with
  | [a0, a1, a2] => ∀ X12 : Ct, (∀ ls st h, bJ3_circularClear_12 E Q X12 ls st h → X12 ls st h) → bJ3_circularClear_0 E Q X12 [a0, a1, a2, jk] [] h
  | _ => False
set_option maxHeartbeats 4000000 in
theorem tJ3_circularClear_42 {x : CX} {E : Nat → Value} {Q : Rs → HS → Prop} {X12 : Ct} (EN : EX x E) (G : Gd x cJ3_circularClear "java/util/ArrayDeque" yJ3_circularClear 4 (Option.none : Option Jvm.ClassFile.FieldType) Q) (hF : x.1.2.2.2.frames = 2 ∧ x.1.2.2.2.locals = 64) (hC : x.2.2.2.2.2 = (fun _ => false)) (hxt : (∀ z ∈ x.2.2.1.2.1.exceptionTable.toList, False)) (h12 : Snd x 12 X12) : Snd x 42 (bJ3_circularClear_42 E Q X12) := by
  unfold bJ3_circularClear_42
  exact s_return G dJ3_circularClear_42
set_option maxHeartbeats 4000000 in
theorem tJ3_circularClear_35 {x : CX} {E : Nat → Value} {Q : Rs → HS → Prop} {X12 : Ct} (EN : EX x E) (G : Gd x cJ3_circularClear "java/util/ArrayDeque" yJ3_circularClear 4 (Option.none : Option Jvm.ClassFile.FieldType) Q) (hF : x.1.2.2.2.frames = 2 ∧ x.1.2.2.2.locals = 64) (hC : x.2.2.2.2.2 = (fun _ => false)) (hxt : (∀ z ∈ x.2.2.1.2.1.exceptionTable.toList, False)) (h12 : Snd x 12 X12) : Snd x 35 (bJ3_circularClear_35 E Q X12) := by
  unfold bJ3_circularClear_35
  refine s_iconst (by decide) G.b dJ3_circularClear_35 ?_
  refine s_istore_n rfl G.b (by rw [G.nl]; decide) (fun _ _ => by rw [hC]) dJ3_circularClear_36 ?_
  refine s_iload_n rfl G.b dJ3_circularClear_37 ?_
  refine s_istore_n rfl G.b (by rw [G.nl]; decide) (fun _ _ => by rw [hC]) dJ3_circularClear_38 ?_
  exact s_goto (tgt := 12) G.b dJ3_circularClear_39 (by decide) h12
set_option maxHeartbeats 4000000 in
theorem tJ3_circularClear_27 {x : CX} {E : Nat → Value} {Q : Rs → HS → Prop} {X12 : Ct} (EN : EX x E) (G : Gd x cJ3_circularClear "java/util/ArrayDeque" yJ3_circularClear 4 (Option.none : Option Jvm.ClassFile.FieldType) Q) (hF : x.1.2.2.2.frames = 2 ∧ x.1.2.2.2.locals = 64) (hC : x.2.2.2.2.2 = (fun _ => false)) (hxt : (∀ z ∈ x.2.2.1.2.1.exceptionTable.toList, False)) (h12 : Snd x 12 X12) : Snd x 27 (bJ3_circularClear_27 E Q X12) := by
  unfold bJ3_circularClear_27
  refine s_iload_n rfl G.b dJ3_circularClear_27 ?_
  refine s_iload_n rfl G.b dJ3_circularClear_28 ?_
  refine s_icmpne (tgt := 35) G.b dJ3_circularClear_29 (by decide) (tJ3_circularClear_35 EN G hF hC hxt h12) ?_
  exact s_goto (tgt := 42) G.b dJ3_circularClear_32 (by decide) (tJ3_circularClear_42 EN G hF hC hxt h12)
set_option maxHeartbeats 4000000 in
theorem tJ3_circularClear_12 {x : CX} {E : Nat → Value} {Q : Rs → HS → Prop} {X12 : Ct} (EN : EX x E) (G : Gd x cJ3_circularClear "java/util/ArrayDeque" yJ3_circularClear 4 (Option.none : Option Jvm.ClassFile.FieldType) Q) (hF : x.1.2.2.2.frames = 2 ∧ x.1.2.2.2.locals = 64) (hC : x.2.2.2.2.2 = (fun _ => false)) (hxt : (∀ z ∈ x.2.2.1.2.1.exceptionTable.toList, False)) (h12 : Snd x 12 X12) : Snd x 12 (bJ3_circularClear_12 E Q X12) := by
  unfold bJ3_circularClear_12
  refine s_iload_n rfl G.b dJ3_circularClear_12 ?_
  refine s_iload_n rfl G.b dJ3_circularClear_13 ?_
  refine s_icmpge (tgt := 27) G.b dJ3_circularClear_14 (by decide) (tJ3_circularClear_27 EN G hF hC hxt h12) ?_
  refine s_aload_n rfl G.b dJ3_circularClear_17 ?_
  refine s_iload_n rfl G.b dJ3_circularClear_18 ?_
  refine s_null G.b dJ3_circularClear_19 ?_
  refine s_aast G.b G.kn dJ3_circularClear_20 ?_
  refine s_iinc (by decide) G.b (by rw [G.nl]; decide) (fun _ _ => by rw [hC]) dJ3_circularClear_21 ?_
  exact s_goto (tgt := 12) G.b dJ3_circularClear_24 (by decide) h12
set_option maxHeartbeats 4000000 in
theorem tJ3_circularClear_11 {x : CX} {E : Nat → Value} {Q : Rs → HS → Prop} {X12 : Ct} (EN : EX x E) (G : Gd x cJ3_circularClear "java/util/ArrayDeque" yJ3_circularClear 4 (Option.none : Option Jvm.ClassFile.FieldType) Q) (hF : x.1.2.2.2.frames = 2 ∧ x.1.2.2.2.locals = 64) (hC : x.2.2.2.2.2 = (fun _ => false)) (hxt : (∀ z ∈ x.2.2.1.2.1.exceptionTable.toList, False)) (h12 : Snd x 12 X12) : Snd x 11 (bJ3_circularClear_11 E Q X12) := by
  unfold bJ3_circularClear_11
  refine s_istore_n rfl G.b (by rw [G.nl]; decide) (fun _ _ => by rw [hC]) dJ3_circularClear_11 ?_
  exact h12
set_option maxHeartbeats 4000000 in
theorem tJ3_circularClear_9 {x : CX} {E : Nat → Value} {Q : Rs → HS → Prop} {X12 : Ct} (EN : EX x E) (G : Gd x cJ3_circularClear "java/util/ArrayDeque" yJ3_circularClear 4 (Option.none : Option Jvm.ClassFile.FieldType) Q) (hF : x.1.2.2.2.frames = 2 ∧ x.1.2.2.2.locals = 64) (hC : x.2.2.2.2.2 = (fun _ => false)) (hxt : (∀ z ∈ x.2.2.1.2.1.exceptionTable.toList, False)) (h12 : Snd x 12 X12) : Snd x 9 (bJ3_circularClear_9 E Q X12) := by
  unfold bJ3_circularClear_9
  refine s_aload_n rfl G.b dJ3_circularClear_9 ?_
  refine s_alen G.b G.kn dJ3_circularClear_10 ?_
  exact (tJ3_circularClear_11 EN G hF hC hxt h12)
set_option maxHeartbeats 4000000 in
theorem tJ3_circularClear_0 {x : CX} {E : Nat → Value} {Q : Rs → HS → Prop} {X12 : Ct} (EN : EX x E) (G : Gd x cJ3_circularClear "java/util/ArrayDeque" yJ3_circularClear 4 (Option.none : Option Jvm.ClassFile.FieldType) Q) (hF : x.1.2.2.2.frames = 2 ∧ x.1.2.2.2.locals = 64) (hC : x.2.2.2.2.2 = (fun _ => false)) (hxt : (∀ z ∈ x.2.2.1.2.1.exceptionTable.toList, False)) (h12 : Snd x 12 X12) : Snd x 0 (bJ3_circularClear_0 E Q X12) := by
  unfold bJ3_circularClear_0
  refine s_iload_n rfl G.b dJ3_circularClear_0 ?_
  refine s_iload_n rfl G.b dJ3_circularClear_1 ?_
  refine s_icmpgt (tgt := 9) G.b dJ3_circularClear_2 (by decide) (tJ3_circularClear_9 EN G hF hC hxt h12) ?_
  refine s_iload_n rfl G.b dJ3_circularClear_5 ?_
  exact s_goto (tgt := 11) G.b dJ3_circularClear_6 (by decide) (tJ3_circularClear_11 EN G hF hC hxt h12)
set_option maxHeartbeats 4000000 in
theorem mJ3_circularClear {l : Launch} {D : DE} {s0 : State} {E : Nat → Value} (EN : EV l D s0 E) : rMet l D s0 yJ3_circularClear (ws_ yJ3_circularClear cJ3_circularClear 4 (Option.none : Option Jvm.ClassFile.FieldType)) 2 64 (wJ3_circularClear E) := by
  refine body_met (fun _ => false) EN.kn (fun w h => h) (by decide +kernel) rfl (fun av h Q hw => ?_) ?_
  · unfold wJ3_circularClear at hw
    split at hw
    · exact Nat.le_of_ble_eq_true rfl
    · exact hw.elim
  · intro p e s m below meth c av h Q hxt G hw
    unfold wJ3_circularClear at hw
    split at hw
    · exact tJ3_circularClear_0 EN G ⟨rfl, rfl⟩ rfl hxt (fun _ _ _ h => h) _ _ _ (hw (AW _ 12) (tJ3_circularClear_12 EN G ⟨rfl, rfl⟩ rfl hxt (fun _ _ _ h => h)))
    · exact hw.elim
/-! java/util/ArrayDeque.clear()V (J3_clear) -/
theorem nmk_191 : nm_ok yJ3_circularClear 3 := ⟨by decide +kernel, by decide +kernel, by decide +kernel⟩
def bJ3_clear_0 (E : Nat → Value) (Q : Rs → HS → Prop) : Ct :=
  o_aload 0 <|
  o_getf [17] 0 <|
  o_aload 0 <|
  o_getf [17] 1 <|
  o_aload 0 <|
  o_getf [17] 2 <|
  o_call 3 (wJ3_circularClear E) (x_out Q) <|
  o_aload 0 <|
  o_aload 0 <|
  o_push (.int 0) <|
  o_dup_x1 <|
  o_putf [17] 2 .int <|
  o_putf [17] 1 .int <|
  o_return Q
def wJ3_clear (E : Nat → Value) : Wp := fun av h Q => match av with
  | [a0] => bJ3_clear_0 E Q [a0] [] h
  | _ => False
set_option maxHeartbeats 4000000 in
theorem tJ3_clear_0 {x : CX} {E : Nat → Value} {Q : Rs → HS → Prop} (EN : EX x E) (G : Gd x cJ3_clear "java/util/ArrayDeque" yJ3_clear 1 (Option.none : Option Jvm.ClassFile.FieldType) Q) (hF : x.1.2.2.2.frames = 3 ∧ x.1.2.2.2.locals = 87) (hC : x.2.2.2.2.2 = (fun _ => false)) (hxt : (∀ z ∈ x.2.2.1.2.1.exceptionTable.toList, False)) : Snd x 0 (bJ3_clear_0 E Q) := by
  unfold bJ3_clear_0
  refine s_aload_n rfl G.b dJ3_clear_0 ?_
  refine s_getf G.b G.ow G.kn (G.hts _ q217) (fun _ h => h) fa_9 dJ3_clear_1 ?_
  refine s_aload_n rfl G.b dJ3_clear_4 ?_
  refine s_getf G.b G.ow G.kn (G.hts _ q218) (fun _ h => h) fa_25 dJ3_clear_5 ?_
  refine s_aload_n rfl G.b dJ3_clear_8 ?_
  refine s_getf G.b G.ow G.kn (G.hts _ q219) (fun _ h => h) fa_24 dJ3_clear_9 ?_
  refine s_callS G (mJ3_circularClear EN) q1893 q1894 q83 q1895 nmk_191 (rm_of hF (Nat.le_of_ble_eq_true rfl) (Nat.le_of_ble_eq_true rfl)) dJ3_clear_12 ?_ (sx_out G (fun z hz => (hxt z hz).elim))
  refine s_aload_n rfl G.b dJ3_clear_15 ?_
  refine s_aload_n rfl G.b dJ3_clear_16 ?_
  refine s_iconst (by decide) G.b dJ3_clear_17 ?_
  refine s_dup_x1 G.b dJ3_clear_18 ?_
  refine s_putf G.b G.ow G.kn (G.hts _ q219) (fun _ h => h) fa_24 (la_cons (r := (RJ3, TJ3, 3)) G.hts (by decide) rfl q224 (la_nil)) (by decide +kernel) dJ3_clear_19 ?_
  refine s_putf G.b G.ow G.kn (G.hts _ q218) (fun _ h => h) fa_25 (la_cons (r := (RJ3, TJ3, 3)) G.hts (by decide) rfl q222 (la_nil)) (by decide +kernel) dJ3_clear_22 ?_
  exact s_return G dJ3_clear_25
set_option maxHeartbeats 4000000 in
theorem mJ3_clear {l : Launch} {D : DE} {s0 : State} {E : Nat → Value} (EN : EV l D s0 E) : rMet l D s0 yJ3_clear (ws_ yJ3_clear cJ3_clear 1 (Option.none : Option Jvm.ClassFile.FieldType)) 3 87 (wJ3_clear E) := by
  refine body_met (fun _ => false) EN.kn (fun w h => h) (by decide +kernel) rfl (fun av h Q hw => ?_) ?_
  · unfold wJ3_clear at hw
    split at hw
    · exact Nat.le_of_ble_eq_true rfl
    · exact hw.elim
  · intro p e s m below meth c av h Q hxt G hw
    unfold wJ3_clear at hw
    split at hw
    · exact tJ3_clear_0 EN G ⟨rfl, rfl⟩ rfl hxt _ _ _ hw
    · exact hw.elim
/-! ChantRules.restore()I (X0_restore) -/
theorem fa_63 : fieldAt [0] 2 "ChantRules" "saved" "LChantRules$Choir;" := fa_cons (r := (RX0, TX0, 10)) rfl (by decide) rfl rfl rfl (fa_nil)
theorem nmk_192 : nm_ok yJ3_clear 0 := ⟨by decide +kernel, by decide +kernel, by decide +kernel⟩
def bX0_restore_10 (E : Nat → Value) (Q : Rs → HS → Prop) : Ct :=
  o_aload 0 <|
  o_aload 0 <|
  o_getf [0] 2 <|
  o_callV [1] 1 (wX1_copy E) (x_out Q) <|
  o_putf [0] 1 (.object "ChantRules$Choir") <|
  o_aload 0 <|
  o_getf [0] 3 <|
  o_callV [17] 1 (wJ3_clear E) (x_out Q) <|
  o_aload 0 <|
  o_getf [0] 1 <|
  o_callV [1] 1 (wX1_arcs E) (x_out Q) <|
  o_ireturn .int Q
def bX0_restore_0 (E : Nat → Value) (Q : Rs → HS → Prop) : Ct :=
  o_aload 0 <|
  o_getf [0] 2 <|
  o_ifnonnull (bX0_restore_10 E Q) <|
  o_push (.int (-15)) <|
  o_ireturn .int Q
def wX0_restore (E : Nat → Value) : Wp := fun av h Q => match av with
  | [a0] => bX0_restore_0 E Q [a0] [] h
  | _ => False
set_option maxHeartbeats 4000000 in
theorem tX0_restore_10 {x : CX} {E : Nat → Value} {Q : Rs → HS → Prop} (EN : EX x E) (G : Gd x cX0_restore "ChantRules" yX0_restore 1 (Option.some Jvm.ClassFile.FieldType.int) Q) (hF : x.1.2.2.2.frames = 16 ∧ x.1.2.2.2.locals = 376) (hC : x.2.2.2.2.2 = (fun _ => false)) (hxt : (∀ z ∈ x.2.2.1.2.1.exceptionTable.toList, False)) : Snd x 10 (bX0_restore_10 E Q) := by
  unfold bX0_restore_10
  refine s_aload_n rfl G.b dX0_restore_10 ?_
  refine s_aload_n rfl G.b dX0_restore_11 ?_
  refine s_getf G.b G.ow G.kn (G.hts _ q301) (fun _ h => h) fa_63 dX0_restore_12 ?_
  refine s_callV G (mX1_copy EN) q342 q343 (sel_cons (r := (RX1, TX1, 4)) (by decide) rfl q344 (sel_nil)) q77 q345 nmk_82 (rm_of hF (Nat.le_of_ble_eq_true rfl) (Nat.le_of_ble_eq_true rfl)) dX0_restore_15 ?_ (sx_out G (fun z hz => (hxt z hz).elim))
  refine s_putf G.b G.ow G.kn (G.hts _ q300) (fun _ h => h) fa_11 (la_cons (r := (RX0, TX0, 10)) G.hts (by decide) rfl q312 (la_nil)) (by decide +kernel) dX0_restore_18 ?_
  refine s_aload_n rfl G.b dX0_restore_21 ?_
  refine s_getf G.b G.ow G.kn (G.hts _ q302) (fun _ h => h) fa_12 dX0_restore_22 ?_
  refine s_callV G (mJ3_clear EN) q1889 q1890 (sel_cons (r := (RJ3, TJ3, 3)) (by decide) rfl q1891 (sel_nil)) q83 q1892 nmk_192 (rm_of hF (Nat.le_of_ble_eq_true rfl) (Nat.le_of_ble_eq_true rfl)) dX0_restore_25 ?_ (sx_out G (fun z hz => (hxt z hz).elim))
  refine s_aload_n rfl G.b dX0_restore_28 ?_
  refine s_getf G.b G.ow G.kn (G.hts _ q300) (fun _ h => h) fa_11 dX0_restore_29 ?_
  refine s_callV G (mX1_arcs EN) q1854 q1835 (sel_cons (r := (RX1, TX1, 4)) (by decide) rfl q1836 (sel_nil)) q77 q1837 nmk_186 (rm_of hF (Nat.le_of_ble_eq_true rfl) (Nat.le_of_ble_eq_true rfl)) dX0_restore_32 ?_ (sx_out G (fun z hz => (hxt z hz).elim))
  exact s_ireturn G dX0_restore_35
set_option maxHeartbeats 4000000 in
theorem tX0_restore_0 {x : CX} {E : Nat → Value} {Q : Rs → HS → Prop} (EN : EX x E) (G : Gd x cX0_restore "ChantRules" yX0_restore 1 (Option.some Jvm.ClassFile.FieldType.int) Q) (hF : x.1.2.2.2.frames = 16 ∧ x.1.2.2.2.locals = 376) (hC : x.2.2.2.2.2 = (fun _ => false)) (hxt : (∀ z ∈ x.2.2.1.2.1.exceptionTable.toList, False)) : Snd x 0 (bX0_restore_0 E Q) := by
  unfold bX0_restore_0
  refine s_aload_n rfl G.b dX0_restore_0 ?_
  refine s_getf G.b G.ow G.kn (G.hts _ q301) (fun _ h => h) fa_63 dX0_restore_1 ?_
  refine s_ifnonnull (tgt := 10) G.b dX0_restore_4 (by decide) (tX0_restore_10 EN G hF hC hxt) ?_
  refine s_bipush (by decide) G.b dX0_restore_7 ?_
  exact s_ireturn G dX0_restore_9
set_option maxHeartbeats 4000000 in
theorem mX0_restore {l : Launch} {D : DE} {s0 : State} {E : Nat → Value} (EN : EV l D s0 E) : rMet l D s0 yX0_restore (ws_ yX0_restore cX0_restore 1 (Option.some Jvm.ClassFile.FieldType.int)) 16 376 (wX0_restore E) := by
  refine body_met (fun _ => false) EN.kn (fun w h => h) (by decide +kernel) rfl (fun av h Q hw => ?_) ?_
  · unfold wX0_restore at hw
    split at hw
    · exact Nat.le_of_ble_eq_true rfl
    · exact hw.elim
  · intro p e s m below meth c av h Q hxt G hw
    unfold wX0_restore at hw
    split at hw
    · exact tX0_restore_0 EN G ⟨rfl, rfl⟩ rfl hxt _ _ _ hw
    · exact hw.elim
/-! ChantRules$Reader.<init>(LChantRules;)V (X12_init) -/
theorem fa_64 : fieldAt [5] 1 "ChantRules$Reader" "this$0" "LChantRules;" := fa_cons (r := (RX12, TX12, 2)) rfl (by decide) rfl rfl rfl (fa_nil)
def bX12_init_0 (E : Nat → Value) (Q : Rs → HS → Prop) : Ct :=
  o_aload 0 <|
  o_aload 1 <|
  o_putf [5] 1 (.object "ChantRules") <|
  o_aload 0 <|
  o_objInit <|
  o_return Q
def wX12_init (E : Nat → Value) : Wp := fun av h Q => match av with
  | [a0, a1] => bX12_init_0 E Q [a0, a1] [] h
  | _ => False
set_option maxHeartbeats 4000000 in
theorem tX12_init_0 {x : CX} {E : Nat → Value} {Q : Rs → HS → Prop} (EN : EX x E) (G : Gd x cX12_init "ChantRules$Reader" yX12_init 2 (Option.none : Option Jvm.ClassFile.FieldType) Q) (hF : x.1.2.2.2.frames = 2 ∧ x.1.2.2.2.locals = 64) (hC : x.2.2.2.2.2 = (fun _ => false)) (hxt : (∀ z ∈ x.2.2.1.2.1.exceptionTable.toList, False)) : Snd x 0 (bX12_init_0 E Q) := by
  unfold bX12_init_0
  refine s_aload_n rfl G.b dX12_init_0 ?_
  refine s_aload_n rfl G.b dX12_init_1 ?_
  refine s_putfF (r0 := (RX12, TX12, 2)) G.b G.ow G.kn (G.hts _ q1462) (by rw [G.name]; rfl) rfl (by decide) (by decide) rfl (G.hts _ q1465) (by decide +kernel) dX12_init_2 ?_
  refine s_aload_n rfl G.b dX12_init_5 ?_
  refine s_objInit G.b G.ow G.hts q1460 q122 q123 G.ml (by rw [hF.1]; decide) (by rw [hF.2]; decide) dX12_init_6 ?_
  exact s_return G dX12_init_9
set_option maxHeartbeats 4000000 in
theorem mX12_init {l : Launch} {D : DE} {s0 : State} {E : Nat → Value} (EN : EV l D s0 E) : rMet l D s0 yX12_init (ws_ yX12_init cX12_init 2 (Option.none : Option Jvm.ClassFile.FieldType)) 2 64 (wX12_init E) := by
  refine body_met (fun _ => false) EN.kn (fun w h => h) (by decide +kernel) rfl (fun av h Q hw => ?_) ?_
  · unfold wX12_init at hw
    split at hw
    · exact Nat.le_of_ble_eq_true rfl
    · exact hw.elim
  · intro p e s m below meth c av h Q hxt G hw
    unfold wX12_init at hw
    split at hw
    · exact tX12_init_0 EN G ⟨rfl, rfl⟩ rfl hxt _ _ _ hw
    · exact hw.elim
/-! ChantRules$Command.<init>(C)V (X14_init) -/
def bX14_init_0 (E : Nat → Value) (Q : Rs → HS → Prop) : Ct :=
  o_aload 0 <|
  o_objInit <|
  o_aload 0 <|
  o_iload 1 <|
  o_putf [7] 0 .char <|
  o_return Q
def wX14_init (E : Nat → Value) : Wp := fun av h Q => match av with
  | [a0, a1] => bX14_init_0 E Q [a0, a1] [] h
  | _ => False
set_option maxHeartbeats 4000000 in
theorem tX14_init_0 {x : CX} {E : Nat → Value} {Q : Rs → HS → Prop} (EN : EX x E) (G : Gd x cX14_init "ChantRules$Command" yX14_init 2 (Option.none : Option Jvm.ClassFile.FieldType) Q) (hF : x.1.2.2.2.frames = 2 ∧ x.1.2.2.2.locals = 64) (hC : x.2.2.2.2.2 = (fun _ => false)) (hxt : (∀ z ∈ x.2.2.1.2.1.exceptionTable.toList, False)) : Snd x 0 (bX14_init_0 E Q) := by
  unfold bX14_init_0
  refine s_aload_n rfl G.b dX14_init_0 ?_
  refine s_objInit G.b G.ow G.hts q1586 q122 q123 G.ml (by rw [hF.1]; decide) (by rw [hF.2]; decide) dX14_init_1 ?_
  refine s_aload_n rfl G.b dX14_init_4 ?_
  refine s_iload_n rfl G.b dX14_init_5 ?_
  refine s_putfF (r0 := (RX14, TX14, 7)) G.b G.ow G.kn (G.hts _ q1587) (by rw [G.name]; rfl) rfl (by decide) (by decide) rfl (G.hts _ q1601) (by decide +kernel) dX14_init_6 ?_
  exact s_return G dX14_init_9
set_option maxHeartbeats 4000000 in
theorem mX14_init {l : Launch} {D : DE} {s0 : State} {E : Nat → Value} (EN : EV l D s0 E) : rMet l D s0 yX14_init (ws_ yX14_init cX14_init 2 (Option.none : Option Jvm.ClassFile.FieldType)) 2 64 (wX14_init E) := by
  refine body_met (fun _ => false) EN.kn (fun w h => h) (by decide +kernel) rfl (fun av h Q hw => ?_) ?_
  · unfold wX14_init at hw
    split at hw
    · exact Nat.le_of_ble_eq_true rfl
    · exact hw.elim
  · intro p e s m below meth c av h Q hxt G hw
    unfold wX14_init at hw
    split at hw
    · exact tX14_init_0 EN G ⟨rfl, rfl⟩ rfl hxt _ _ _ hw
    · exact hw.elim
/-! ChantRules$Wrong.<init>(I)V (X13_init) -/
theorem fa_65 : fieldAt [6] 6 "ChantRules$Wrong" "at" "I" := fa_cons (r := (RX13, TX13, 7)) rfl (by decide) rfl rfl rfl (fa_nil)
def bX13_init_0 (E : Nat → Value) (Q : Rs → HS → Prop) : Ct :=
  o_aload 0 <|
  o_push .null <|
  o_push .null <|
  o_push (.int 0) <|
  o_push (.int 0) <|
  o_callI 5 (wJ14_init E) (x_out Q) <|
  o_aload 0 <|
  o_iload 1 <|
  o_putf [6] 6 .int <|
  o_return Q
def wX13_init (E : Nat → Value) : Wp := fun av h Q => match av with
  | [a0, a1] => bX13_init_0 E Q [a0, a1] [] h
  | _ => False
set_option maxHeartbeats 4000000 in
theorem tX13_init_0 {x : CX} {E : Nat → Value} {Q : Rs → HS → Prop} (EN : EX x E) (G : Gd x cX13_init "ChantRules$Wrong" yX13_init 2 (Option.none : Option Jvm.ClassFile.FieldType) Q) (hF : x.1.2.2.2.frames = 4 ∧ x.1.2.2.2.locals = 112) (hC : x.2.2.2.2.2 = (fun _ => false)) (hxt : (∀ z ∈ x.2.2.1.2.1.exceptionTable.toList, False)) : Snd x 0 (bX13_init_0 E Q) := by
  unfold bX13_init_0
  refine s_aload_n rfl G.b dX13_init_0 ?_
  refine s_null G.b dX13_init_1 ?_
  refine s_null G.b dX13_init_2 ?_
  refine s_iconst (by decide) G.b dX13_init_3 ?_
  refine s_iconst (by decide) G.b dX13_init_4 ?_
  refine s_callI G (mJ14_init EN) rfl q1574 q521 q97 q522 nmk_72 (rm_of hF (Nat.le_of_ble_eq_true rfl) (Nat.le_of_ble_eq_true rfl)) dX13_init_5 ?_ (sx_out G (fun z hz => (hxt z hz).elim))
  refine s_aload_n rfl G.b dX13_init_8 ?_
  refine s_iload_n rfl G.b dX13_init_9 ?_
  refine s_putfF (r0 := (RX13, TX13, 7)) G.b G.ow G.kn (G.hts _ q1575) (by rw [G.name]; rfl) rfl (by decide) (by decide) rfl (G.hts _ q1577) (by decide +kernel) dX13_init_10 ?_
  exact s_return G dX13_init_13
set_option maxHeartbeats 4000000 in
theorem mX13_init {l : Launch} {D : DE} {s0 : State} {E : Nat → Value} (EN : EV l D s0 E) : rMet l D s0 yX13_init (ws_ yX13_init cX13_init 2 (Option.none : Option Jvm.ClassFile.FieldType)) 4 112 (wX13_init E) := by
  refine body_met (fun _ => false) EN.kn (fun w h => h) (by decide +kernel) rfl (fun av h Q hw => ?_) ?_
  · unfold wX13_init at hw
    split at hw
    · exact Nat.le_of_ble_eq_true rfl
    · exact hw.elim
  · intro p e s m below meth c av h Q hxt G hw
    unfold wX13_init at hw
    split at hw
    · exact tX13_init_0 EN G ⟨rfl, rfl⟩ rfl hxt _ _ _ hw
    · exact hw.elim
/-! ChantRules$Reader.needs(Z)V (X12_needs) -/
theorem fa_66 : fieldAt [5] 0 "ChantRules$Reader" "at" "I" := fa_cons (r := (RX12, TX12, 2)) rfl (by decide) rfl rfl rfl (fa_nil)
theorem nmk_193 : nm_ok yX13_init 1 := ⟨by decide +kernel, by decide +kernel, by decide +kernel⟩
def bX12_needs_16 (E : Nat → Value) (Q : Rs → HS → Prop) : Ct :=
  o_return Q
def bX12_needs_0 (E : Nat → Value) (Q : Rs → HS → Prop) : Ct :=
  o_iload 1 <|
  o_ifne (bX12_needs_16 E Q) <|
  o_new 6 7 [.null, .null, .null, .null, .null, .int 0, .int 0] <|
  o_dup <|
  o_aload 0 <|
  o_getf [5] 0 <|
  o_callI 2 (wX13_init E) (x_out Q) <|
  o_athrow (x_out Q)
def wX12_needs (E : Nat → Value) : Wp := fun av h Q => match av with
  | [a0, a1] => bX12_needs_0 E Q [a0, a1] [] h
  | _ => False
set_option maxHeartbeats 4000000 in
theorem tX12_needs_16 {x : CX} {E : Nat → Value} {Q : Rs → HS → Prop} (EN : EX x E) (G : Gd x cX12_needs "ChantRules$Reader" yX12_needs 2 (Option.none : Option Jvm.ClassFile.FieldType) Q) (hF : x.1.2.2.2.frames = 5 ∧ x.1.2.2.2.locals = 133) (hC : x.2.2.2.2.2 = (fun _ => false)) (hxt : (∀ z ∈ x.2.2.1.2.1.exceptionTable.toList, False)) : Snd x 16 (bX12_needs_16 E Q) := by
  unfold bX12_needs_16
  exact s_return G dX12_needs_16
set_option maxHeartbeats 4000000 in
theorem tX12_needs_0 {x : CX} {E : Nat → Value} {Q : Rs → HS → Prop} (EN : EX x E) (G : Gd x cX12_needs "ChantRules$Reader" yX12_needs 2 (Option.none : Option Jvm.ClassFile.FieldType) Q) (hF : x.1.2.2.2.frames = 5 ∧ x.1.2.2.2.locals = 133) (hC : x.2.2.2.2.2 = (fun _ => false)) (hxt : (∀ z ∈ x.2.2.1.2.1.exceptionTable.toList, False)) : Snd x 0 (bX12_needs_0 E Q) := by
  unfold bX12_needs_0
  refine s_iload_n rfl G.b dX12_needs_0 ?_
  refine s_ifne (tgt := 16) G.b dX12_needs_1 (by decide) (tX12_needs_16 EN G hF hC hxt) ?_
  refine s_new (C := RX13) (T0 := TX13) (N := 7) G.b G.ow G.kn G.gr G.hts rfl (by decide) in_X13 q1562 q1563 q111 tyX13 tyX13_ok rfl dX12_needs_4 ?_
  refine s_dup G.b dX12_needs_7 ?_
  refine s_aload_n rfl G.b dX12_needs_8 ?_
  refine s_getf G.b G.ow G.kn (G.hts _ q1461) (fun _ h => h) fa_66 dX12_needs_9 ?_
  refine s_callI G (mX13_init EN) rfl q1571 q1572 q111 q1573 nmk_193 (rm_of hF (Nat.le_of_ble_eq_true rfl) (Nat.le_of_ble_eq_true rfl)) dX12_needs_12 ?_ (sx_out G (fun z hz => (hxt z hz).elim))
  exact s_athrow G.b G.kn dX12_needs_15 (sx_out G (fun z hz => (hxt z hz).elim))
set_option maxHeartbeats 4000000 in
theorem mX12_needs {l : Launch} {D : DE} {s0 : State} {E : Nat → Value} (EN : EV l D s0 E) : rMet l D s0 yX12_needs (ws_ yX12_needs cX12_needs 2 (Option.none : Option Jvm.ClassFile.FieldType)) 5 133 (wX12_needs E) := by
  refine body_met (fun _ => false) EN.kn (fun w h => h) (by decide +kernel) rfl (fun av h Q hw => ?_) ?_
  · unfold wX12_needs at hw
    split at hw
    · exact Nat.le_of_ble_eq_true rfl
    · exact hw.elim
  · intro p e s m below meth c av h Q hxt G hw
    unfold wX12_needs at hw
    split at hw
    · exact tX12_needs_0 EN G ⟨rfl, rfl⟩ rfl hxt _ _ _ hw
    · exact hw.elim
/-! ChantRules$Reader.here()I (X12_here) -/
def bX12_here_36 (E : Nat → Value) (Q : Rs → HS → Prop) : Ct :=
  o_ireturn .int Q
def bX12_here_34 (E : Nat → Value) (Q : Rs → HS → Prop) : Ct :=
  o_push (.int (-11)) <|
  (bX12_here_36 E Q)
def bX12_here_0 (E : Nat → Value) (Q : Rs → HS → Prop) : Ct :=
  o_aload 0 <|
  o_getf [5] 0 <|
  o_aload 0 <|
  o_getf [5] 1 <|
  o_getf [0] 8 <|
  o_callV [18] 1 (wJ5_length E) (x_out Q) <|
  o_icmpge (bX12_here_34 E Q) <|
  o_aload 0 <|
  o_getf [5] 1 <|
  o_getf [0] 8 <|
  o_aload 0 <|
  o_getf [5] 0 <|
  o_callV [18] 2 (wJ5_charAt E) (x_out Q) <|
  (bX12_here_36 E Q)
def wX12_here (E : Nat → Value) : Wp := fun av h Q => match av with
  | [a0] => bX12_here_0 E Q [a0] [] h
  | _ => False
set_option maxHeartbeats 4000000 in
theorem tX12_here_36 {x : CX} {E : Nat → Value} {Q : Rs → HS → Prop} (EN : EX x E) (G : Gd x cX12_here "ChantRules$Reader" yX12_here 1 (Option.some Jvm.ClassFile.FieldType.int) Q) (hF : x.1.2.2.2.frames = 6 ∧ x.1.2.2.2.locals = 152) (hC : x.2.2.2.2.2 = (fun _ => false)) (hxt : (∀ z ∈ x.2.2.1.2.1.exceptionTable.toList, False)) : Snd x 36 (bX12_here_36 E Q) := by
  unfold bX12_here_36
  exact s_ireturn G dX12_here_36
set_option maxHeartbeats 4000000 in
theorem tX12_here_34 {x : CX} {E : Nat → Value} {Q : Rs → HS → Prop} (EN : EX x E) (G : Gd x cX12_here "ChantRules$Reader" yX12_here 1 (Option.some Jvm.ClassFile.FieldType.int) Q) (hF : x.1.2.2.2.frames = 6 ∧ x.1.2.2.2.locals = 152) (hC : x.2.2.2.2.2 = (fun _ => false)) (hxt : (∀ z ∈ x.2.2.1.2.1.exceptionTable.toList, False)) : Snd x 34 (bX12_here_34 E Q) := by
  unfold bX12_here_34
  refine s_bipush (by decide) G.b dX12_here_34 ?_
  exact (tX12_here_36 EN G hF hC hxt)
set_option maxHeartbeats 4000000 in
theorem tX12_here_0 {x : CX} {E : Nat → Value} {Q : Rs → HS → Prop} (EN : EX x E) (G : Gd x cX12_here "ChantRules$Reader" yX12_here 1 (Option.some Jvm.ClassFile.FieldType.int) Q) (hF : x.1.2.2.2.frames = 6 ∧ x.1.2.2.2.locals = 152) (hC : x.2.2.2.2.2 = (fun _ => false)) (hxt : (∀ z ∈ x.2.2.1.2.1.exceptionTable.toList, False)) : Snd x 0 (bX12_here_0 E Q) := by
  unfold bX12_here_0
  refine s_aload_n rfl G.b dX12_here_0 ?_
  refine s_getf G.b G.ow G.kn (G.hts _ q1461) (fun _ h => h) fa_66 dX12_here_1 ?_
  refine s_aload_n rfl G.b dX12_here_4 ?_
  refine s_getf G.b G.ow G.kn (G.hts _ q1462) (fun _ h => h) fa_64 dX12_here_5 ?_
  refine s_getfN G.b G.ow G.kn (va_Nw.use rfl (va_Nw.warmF G.warm (EN.nw q308 rfl))) (fun _ h => h) fa_13 dX12_here_8 ?_
  refine s_callV G (mJ5_length EN) q1501 q937 (sel_cons (r := (RJ5, TJ5, 4)) (by decide) rfl q938 (sel_nil)) q85 q939 nmk_24 (rm_of hF (Nat.le_of_ble_eq_true rfl) (Nat.le_of_ble_eq_true rfl)) dX12_here_11 ?_ (sx_out G (fun z hz => (hxt z hz).elim))
  refine s_icmpge (tgt := 34) G.b dX12_here_14 (by decide) (tX12_here_34 EN G hF hC hxt) ?_
  refine s_aload_n rfl G.b dX12_here_17 ?_
  refine s_getf G.b G.ow G.kn (G.hts _ q1462) (fun _ h => h) fa_64 dX12_here_18 ?_
  refine s_getfN G.b G.ow G.kn (va_Nw.use rfl (va_Nw.warmF G.warm (EN.nw q308 rfl))) (fun _ h => h) fa_13 dX12_here_21 ?_
  refine s_aload_n rfl G.b dX12_here_24 ?_
  refine s_getf G.b G.ow G.kn (G.hts _ q1461) (fun _ h => h) fa_66 dX12_here_25 ?_
  refine s_callV G (mJ5_charAt EN) q1502 q944 (sel_cons (r := (RJ5, TJ5, 4)) (by decide) rfl q945 (sel_nil)) q85 q946 nmk_94 (rm_of hF (Nat.le_of_ble_eq_true rfl) (Nat.le_of_ble_eq_true rfl)) dX12_here_28 ?_ (sx_out G (fun z hz => (hxt z hz).elim))
  exact s_goto (tgt := 36) G.b dX12_here_31 (by decide) (tX12_here_36 EN G hF hC hxt)
set_option maxHeartbeats 4000000 in
theorem mX12_here {l : Launch} {D : DE} {s0 : State} {E : Nat → Value} (EN : EV l D s0 E) : rMet l D s0 yX12_here (ws_ yX12_here cX12_here 1 (Option.some Jvm.ClassFile.FieldType.int)) 6 152 (wX12_here E) := by
  refine body_met (fun _ => false) EN.kn (fun w h => h) (by decide +kernel) rfl (fun av h Q hw => ?_) ?_
  · unfold wX12_here at hw
    split at hw
    · exact Nat.le_of_ble_eq_true rfl
    · exact hw.elim
  · intro p e s m below meth c av h Q hxt G hw
    unfold wX12_here at hw
    split at hw
    · exact tX12_here_0 EN G ⟨rfl, rfl⟩ rfl hxt _ _ _ hw
    · exact hw.elim
/-! ChantRules$Reader.number(I)I (X12_number) -/
theorem nmk_194 : nm_ok yX12_here 0 := ⟨by decide +kernel, by decide +kernel, by decide +kernel⟩
theorem nmk_195 : nm_ok yX12_needs 1 := ⟨by decide +kernel, by decide +kernel, by decide +kernel⟩
def bX12_number_67 (E : Nat → Value) (Q : Rs → HS → Prop) (X19 : Ct) : Ct :=
  o_iload 2 <|
  o_ireturn .int Q
def bX12_number_19 (E : Nat → Value) (Q : Rs → HS → Prop) (X19 : Ct) : Ct :=
  o_iload 3 <|
  o_iload 1 <|
  o_icmpge (bX12_number_67 E Q X19) <|
  o_aload 0 <|
  o_callV [5] 1 (wX12_here E) (x_out Q) <|
  o_push (.int 48) <|
  o_push (.int 57) <|
  o_call 3 (wX0_isIn E) (x_out Q) <|
  o_ifeq (bX12_number_67 E Q X19) <|
  o_push (.int 10) <|
  o_iload 2 <|
  o_imul <|
  o_aload 0 <|
  o_callV [5] 1 (wX12_here E) (x_out Q) <|
  o_iadd <|
  o_push (.int 48) <|
  o_isub <|
  o_istore 2 <|
  o_aload 0 <|
  o_dup <|
  o_getf [5] 0 <|
  o_push (.int 1) <|
  o_iadd <|
  o_putf [5] 0 .int <|
  o_iinc 3 1 <|
  X19
def bX12_number_0 (E : Nat → Value) (Q : Rs → HS → Prop) (X19 : Ct) : Ct :=
  o_aload 0 <|
  o_aload 0 <|
  o_callV [5] 1 (wX12_here E) (x_out Q) <|
  o_push (.int 48) <|
  o_push (.int 57) <|
  o_call 3 (wX0_isIn E) (x_out Q) <|
  o_callV [5] 2 (wX12_needs E) (x_out Q) <|
  o_push (.int 0) <|
  o_istore 2 <|
  o_push (.int 0) <|
  o_istore 3 <|
  X19
def wX12_number (E : Nat → Value) : Wp := fun av h Q => match av with
  | [a0, a1] => ∀ X19 : Ct, (∀ ls st h, bX12_number_19 E Q X19 ls st h → X19 ls st h) → bX12_number_0 E Q X19 [a0, a1, jk, jk] [] h
  | _ => False
set_option maxHeartbeats 4000000 in
theorem tX12_number_67 {x : CX} {E : Nat → Value} {Q : Rs → HS → Prop} {X19 : Ct} (EN : EX x E) (G : Gd x cX12_number "ChantRules$Reader" yX12_number 4 (Option.some Jvm.ClassFile.FieldType.int) Q) (hF : x.1.2.2.2.frames = 7 ∧ x.1.2.2.2.locals = 172) (hC : x.2.2.2.2.2 = (fun _ => false)) (hxt : (∀ z ∈ x.2.2.1.2.1.exceptionTable.toList, False)) (h19 : Snd x 19 X19) : Snd x 67 (bX12_number_67 E Q X19) := by
  unfold bX12_number_67
  refine s_iload_n rfl G.b dX12_number_67 ?_
  exact s_ireturn G dX12_number_68
set_option maxHeartbeats 4000000 in
theorem tX12_number_19 {x : CX} {E : Nat → Value} {Q : Rs → HS → Prop} {X19 : Ct} (EN : EX x E) (G : Gd x cX12_number "ChantRules$Reader" yX12_number 4 (Option.some Jvm.ClassFile.FieldType.int) Q) (hF : x.1.2.2.2.frames = 7 ∧ x.1.2.2.2.locals = 172) (hC : x.2.2.2.2.2 = (fun _ => false)) (hxt : (∀ z ∈ x.2.2.1.2.1.exceptionTable.toList, False)) (h19 : Snd x 19 X19) : Snd x 19 (bX12_number_19 E Q X19) := by
  unfold bX12_number_19
  refine s_iload_n rfl G.b dX12_number_19 ?_
  refine s_iload_n rfl G.b dX12_number_20 ?_
  refine s_icmpge (tgt := 67) G.b dX12_number_21 (by decide) (tX12_number_67 EN G hF hC hxt h19) ?_
  refine s_aload_n rfl G.b dX12_number_24 ?_
  refine s_callV G (mX12_here EN) q1497 q1499 (sel_cons (r := (RX12, TX12, 2)) (by decide) rfl qs23 (sel_nil)) q107 q1500 nmk_194 (rm_of hF (Nat.le_of_ble_eq_true rfl) (Nat.le_of_ble_eq_true rfl)) dX12_number_25 ?_ (sx_out G (fun z hz => (hxt z hz).elim))
  refine s_bipush (by decide) G.b dX12_number_28 ?_
  refine s_bipush (by decide) G.b dX12_number_30 ?_
  refine s_callSN G (mX0_isIn EN) (va_Nw.use rfl (va_Nw.warmM G.warm (EN.nw q1620 rfl))) q340 q76 q341 nmk_50 (rm_of hF (Nat.le_of_ble_eq_true rfl) (Nat.le_of_ble_eq_true rfl)) dX12_number_32 ?_ (sx_out G (fun z hz => (hxt z hz).elim))
  refine s_ifeq (tgt := 67) G.b dX12_number_35 (by decide) (tX12_number_67 EN G hF hC hxt h19) ?_
  refine s_bipush (by decide) G.b dX12_number_38 ?_
  refine s_iload_n rfl G.b dX12_number_40 ?_
  refine s_imul G.b dX12_number_41 ?_
  refine s_aload_n rfl G.b dX12_number_42 ?_
  refine s_callV G (mX12_here EN) q1497 q1499 (sel_cons (r := (RX12, TX12, 2)) (by decide) rfl qs23 (sel_nil)) q107 q1500 nmk_194 (rm_of hF (Nat.le_of_ble_eq_true rfl) (Nat.le_of_ble_eq_true rfl)) dX12_number_43 ?_ (sx_out G (fun z hz => (hxt z hz).elim))
  refine s_iadd G.b dX12_number_46 ?_
  refine s_bipush (by decide) G.b dX12_number_47 ?_
  refine s_isub G.b dX12_number_49 ?_
  refine s_istore_n rfl G.b (by rw [G.nl]; decide) (fun _ _ => by rw [hC]) dX12_number_50 ?_
  refine s_aload_n rfl G.b dX12_number_51 ?_
  refine s_dup G.b dX12_number_52 ?_
  refine s_getf G.b G.ow G.kn (G.hts _ q1461) (fun _ h => h) fa_66 dX12_number_53 ?_
  refine s_iconst (by decide) G.b dX12_number_56 ?_
  refine s_iadd G.b dX12_number_57 ?_
  refine s_putf G.b G.ow G.kn (G.hts _ q1461) (fun _ h => h) fa_66 (la_cons (r := (RX12, TX12, 2)) G.hts (by decide) rfl q1463 (la_nil)) (by decide +kernel) dX12_number_58 ?_
  refine s_iinc (by decide) G.b (by rw [G.nl]; decide) (fun _ _ => by rw [hC]) dX12_number_61 ?_
  exact s_goto (tgt := 19) G.b dX12_number_64 (by decide) h19
set_option maxHeartbeats 4000000 in
theorem tX12_number_0 {x : CX} {E : Nat → Value} {Q : Rs → HS → Prop} {X19 : Ct} (EN : EX x E) (G : Gd x cX12_number "ChantRules$Reader" yX12_number 4 (Option.some Jvm.ClassFile.FieldType.int) Q) (hF : x.1.2.2.2.frames = 7 ∧ x.1.2.2.2.locals = 172) (hC : x.2.2.2.2.2 = (fun _ => false)) (hxt : (∀ z ∈ x.2.2.1.2.1.exceptionTable.toList, False)) (h19 : Snd x 19 X19) : Snd x 0 (bX12_number_0 E Q X19) := by
  unfold bX12_number_0
  refine s_aload_n rfl G.b dX12_number_0 ?_
  refine s_aload_n rfl G.b dX12_number_1 ?_
  refine s_callV G (mX12_here EN) q1497 q1499 (sel_cons (r := (RX12, TX12, 2)) (by decide) rfl qs23 (sel_nil)) q107 q1500 nmk_194 (rm_of hF (Nat.le_of_ble_eq_true rfl) (Nat.le_of_ble_eq_true rfl)) dX12_number_2 ?_ (sx_out G (fun z hz => (hxt z hz).elim))
  refine s_bipush (by decide) G.b dX12_number_5 ?_
  refine s_bipush (by decide) G.b dX12_number_7 ?_
  refine s_callSN G (mX0_isIn EN) (va_Nw.use rfl (va_Nw.warmM G.warm (EN.nw q1620 rfl))) q340 q76 q341 nmk_50 (rm_of hF (Nat.le_of_ble_eq_true rfl) (Nat.le_of_ble_eq_true rfl)) dX12_number_9 ?_ (sx_out G (fun z hz => (hxt z hz).elim))
  refine s_callV G (mX12_needs EN) q1558 q1560 (sel_cons (r := (RX12, TX12, 2)) (by decide) rfl qs24 (sel_nil)) q107 q1561 nmk_195 (rm_of hF (Nat.le_of_ble_eq_true rfl) (Nat.le_of_ble_eq_true rfl)) dX12_number_12 ?_ (sx_out G (fun z hz => (hxt z hz).elim))
  refine s_iconst (by decide) G.b dX12_number_15 ?_
  refine s_istore_n rfl G.b (by rw [G.nl]; decide) (fun _ _ => by rw [hC]) dX12_number_16 ?_
  refine s_iconst (by decide) G.b dX12_number_17 ?_
  refine s_istore_n rfl G.b (by rw [G.nl]; decide) (fun _ _ => by rw [hC]) dX12_number_18 ?_
  exact h19
set_option maxHeartbeats 4000000 in
theorem mX12_number {l : Launch} {D : DE} {s0 : State} {E : Nat → Value} (EN : EV l D s0 E) : rMet l D s0 yX12_number (ws_ yX12_number cX12_number 4 (Option.some Jvm.ClassFile.FieldType.int)) 7 172 (wX12_number E) := by
  refine body_met (fun _ => false) EN.kn (fun w h => h) (by decide +kernel) rfl (fun av h Q hw => ?_) ?_
  · unfold wX12_number at hw
    split at hw
    · exact Nat.le_of_ble_eq_true rfl
    · exact hw.elim
  · intro p e s m below meth c av h Q hxt G hw
    unfold wX12_number at hw
    split at hw
    · exact tX12_number_0 EN G ⟨rfl, rfl⟩ rfl hxt (fun _ _ _ h => h) _ _ _ (hw (AW _ 19) (tX12_number_19 EN G ⟨rfl, rfl⟩ rfl hxt (fun _ _ _ h => h)))
    · exact hw.elim
/-! ChantRules$Reader.takes(I)Z (X12_takes) -/
def bX12_takes_28 (E : Nat → Value) (Q : Rs → HS → Prop) : Ct :=
  o_iadd <|
  o_putf [5] 0 .int <|
  o_iload 2 <|
  o_ireturn .boolean Q
def bX12_takes_27 (E : Nat → Value) (Q : Rs → HS → Prop) : Ct :=
  o_push (.int 0) <|
  (bX12_takes_28 E Q)
def bX12_takes_13 (E : Nat → Value) (Q : Rs → HS → Prop) : Ct :=
  o_istore 2 <|
  o_aload 0 <|
  o_dup <|
  o_getf [5] 0 <|
  o_iload 2 <|
  o_ifeq (bX12_takes_27 E Q) <|
  o_push (.int 1) <|
  (bX12_takes_28 E Q)
def bX12_takes_12 (E : Nat → Value) (Q : Rs → HS → Prop) : Ct :=
  o_push (.int 0) <|
  (bX12_takes_13 E Q)
def bX12_takes_0 (E : Nat → Value) (Q : Rs → HS → Prop) : Ct :=
  o_aload 0 <|
  o_callV [5] 1 (wX12_here E) (x_out Q) <|
  o_iload 1 <|
  o_icmpne (bX12_takes_12 E Q) <|
  o_push (.int 1) <|
  (bX12_takes_13 E Q)
def wX12_takes (E : Nat → Value) : Wp := fun av h Q => match av with
  | [a0, a1] => bX12_takes_0 E Q [a0, a1, jk] [] h
  | _ => False
set_option maxHeartbeats 4000000 in
theorem tX12_takes_28 {x : CX} {E : Nat → Value} {Q : Rs → HS → Prop} (EN : EX x E) (G : Gd x cX12_takes "ChantRules$Reader" yX12_takes 3 (Option.some Jvm.ClassFile.FieldType.boolean) Q) (hF : x.1.2.2.2.frames = 7 ∧ x.1.2.2.2.locals = 172) (hC : x.2.2.2.2.2 = (fun _ => false)) (hxt : (∀ z ∈ x.2.2.1.2.1.exceptionTable.toList, False)) : Snd x 28 (bX12_takes_28 E Q) := by
  unfold bX12_takes_28
  refine s_iadd G.b dX12_takes_28 ?_
  refine s_putf G.b G.ow G.kn (G.hts _ q1461) (fun _ h => h) fa_66 (la_cons (r := (RX12, TX12, 2)) G.hts (by decide) rfl q1463 (la_nil)) (by decide +kernel) dX12_takes_29 ?_
  refine s_iload_n rfl G.b dX12_takes_32 ?_
  exact s_ireturn G dX12_takes_33
set_option maxHeartbeats 4000000 in
theorem tX12_takes_27 {x : CX} {E : Nat → Value} {Q : Rs → HS → Prop} (EN : EX x E) (G : Gd x cX12_takes "ChantRules$Reader" yX12_takes 3 (Option.some Jvm.ClassFile.FieldType.boolean) Q) (hF : x.1.2.2.2.frames = 7 ∧ x.1.2.2.2.locals = 172) (hC : x.2.2.2.2.2 = (fun _ => false)) (hxt : (∀ z ∈ x.2.2.1.2.1.exceptionTable.toList, False)) : Snd x 27 (bX12_takes_27 E Q) := by
  unfold bX12_takes_27
  refine s_iconst (by decide) G.b dX12_takes_27 ?_
  exact (tX12_takes_28 EN G hF hC hxt)
set_option maxHeartbeats 4000000 in
theorem tX12_takes_13 {x : CX} {E : Nat → Value} {Q : Rs → HS → Prop} (EN : EX x E) (G : Gd x cX12_takes "ChantRules$Reader" yX12_takes 3 (Option.some Jvm.ClassFile.FieldType.boolean) Q) (hF : x.1.2.2.2.frames = 7 ∧ x.1.2.2.2.locals = 172) (hC : x.2.2.2.2.2 = (fun _ => false)) (hxt : (∀ z ∈ x.2.2.1.2.1.exceptionTable.toList, False)) : Snd x 13 (bX12_takes_13 E Q) := by
  unfold bX12_takes_13
  refine s_istore_n rfl G.b (by rw [G.nl]; decide) (fun _ _ => by rw [hC]) dX12_takes_13 ?_
  refine s_aload_n rfl G.b dX12_takes_14 ?_
  refine s_dup G.b dX12_takes_15 ?_
  refine s_getf G.b G.ow G.kn (G.hts _ q1461) (fun _ h => h) fa_66 dX12_takes_16 ?_
  refine s_iload_n rfl G.b dX12_takes_19 ?_
  refine s_ifeq (tgt := 27) G.b dX12_takes_20 (by decide) (tX12_takes_27 EN G hF hC hxt) ?_
  refine s_iconst (by decide) G.b dX12_takes_23 ?_
  exact s_goto (tgt := 28) G.b dX12_takes_24 (by decide) (tX12_takes_28 EN G hF hC hxt)
set_option maxHeartbeats 4000000 in
theorem tX12_takes_12 {x : CX} {E : Nat → Value} {Q : Rs → HS → Prop} (EN : EX x E) (G : Gd x cX12_takes "ChantRules$Reader" yX12_takes 3 (Option.some Jvm.ClassFile.FieldType.boolean) Q) (hF : x.1.2.2.2.frames = 7 ∧ x.1.2.2.2.locals = 172) (hC : x.2.2.2.2.2 = (fun _ => false)) (hxt : (∀ z ∈ x.2.2.1.2.1.exceptionTable.toList, False)) : Snd x 12 (bX12_takes_12 E Q) := by
  unfold bX12_takes_12
  refine s_iconst (by decide) G.b dX12_takes_12 ?_
  exact (tX12_takes_13 EN G hF hC hxt)
set_option maxHeartbeats 4000000 in
theorem tX12_takes_0 {x : CX} {E : Nat → Value} {Q : Rs → HS → Prop} (EN : EX x E) (G : Gd x cX12_takes "ChantRules$Reader" yX12_takes 3 (Option.some Jvm.ClassFile.FieldType.boolean) Q) (hF : x.1.2.2.2.frames = 7 ∧ x.1.2.2.2.locals = 172) (hC : x.2.2.2.2.2 = (fun _ => false)) (hxt : (∀ z ∈ x.2.2.1.2.1.exceptionTable.toList, False)) : Snd x 0 (bX12_takes_0 E Q) := by
  unfold bX12_takes_0
  refine s_aload_n rfl G.b dX12_takes_0 ?_
  refine s_callV G (mX12_here EN) q1497 q1499 (sel_cons (r := (RX12, TX12, 2)) (by decide) rfl qs23 (sel_nil)) q107 q1500 nmk_194 (rm_of hF (Nat.le_of_ble_eq_true rfl) (Nat.le_of_ble_eq_true rfl)) dX12_takes_1 ?_ (sx_out G (fun z hz => (hxt z hz).elim))
  refine s_iload_n rfl G.b dX12_takes_4 ?_
  refine s_icmpne (tgt := 12) G.b dX12_takes_5 (by decide) (tX12_takes_12 EN G hF hC hxt) ?_
  refine s_iconst (by decide) G.b dX12_takes_8 ?_
  exact s_goto (tgt := 13) G.b dX12_takes_9 (by decide) (tX12_takes_13 EN G hF hC hxt)
set_option maxHeartbeats 4000000 in
theorem mX12_takes {l : Launch} {D : DE} {s0 : State} {E : Nat → Value} (EN : EV l D s0 E) : rMet l D s0 yX12_takes (ws_ yX12_takes cX12_takes 3 (Option.some Jvm.ClassFile.FieldType.boolean)) 7 172 (wX12_takes E) := by
  refine body_met (fun _ => false) EN.kn (fun w h => h) (by decide +kernel) rfl (fun av h Q hw => ?_) ?_
  · unfold wX12_takes at hw
    split at hw
    · exact Nat.le_of_ble_eq_true rfl
    · exact hw.elim
  · intro p e s m below meth c av h Q hxt G hw
    unfold wX12_takes at hw
    split at hw
    · exact tX12_takes_0 EN G ⟨rfl, rfl⟩ rfl hxt _ _ _ hw
    · exact hw.elim
/-! ChantRules$Reader.behind(II)I (X12_behind) -/
theorem nmk_196 : nm_ok yX12_takes 1 := ⟨by decide +kernel, by decide +kernel, by decide +kernel⟩
theorem nmk_197 : nm_ok yX12_number 1 := ⟨by decide +kernel, by decide +kernel, by decide +kernel⟩
def bX12_behind_0 (E : Nat → Value) (Q : Rs → HS → Prop) : Ct :=
  o_aload 0 <|
  o_aload 0 <|
  o_iload 1 <|
  o_callV [5] 2 (wX12_takes E) (x_out Q) <|
  o_callV [5] 2 (wX12_needs E) (x_out Q) <|
  o_aload 0 <|
  o_iload 2 <|
  o_callV [5] 2 (wX12_number E) (x_out Q) <|
  o_ireturn .int Q
def wX12_behind (E : Nat → Value) : Wp := fun av h Q => match av with
  | [a0, a1, a2] => bX12_behind_0 E Q [a0, a1, a2] [] h
  | _ => False
set_option maxHeartbeats 4000000 in
theorem tX12_behind_0 {x : CX} {E : Nat → Value} {Q : Rs → HS → Prop} (EN : EX x E) (G : Gd x cX12_behind "ChantRules$Reader" yX12_behind 3 (Option.some Jvm.ClassFile.FieldType.int) Q) (hF : x.1.2.2.2.frames = 8 ∧ x.1.2.2.2.locals = 195) (hC : x.2.2.2.2.2 = (fun _ => false)) (hxt : (∀ z ∈ x.2.2.1.2.1.exceptionTable.toList, False)) : Snd x 0 (bX12_behind_0 E Q) := by
  unfold bX12_behind_0
  refine s_aload_n rfl G.b dX12_behind_0 ?_
  refine s_aload_n rfl G.b dX12_behind_1 ?_
  refine s_iload_n rfl G.b dX12_behind_2 ?_
  refine s_callV G (mX12_takes EN) q1625 q1627 (sel_cons (r := (RX12, TX12, 2)) (by decide) rfl qs27 (sel_nil)) q107 q1628 nmk_196 (rm_of hF (Nat.le_of_ble_eq_true rfl) (Nat.le_of_ble_eq_true rfl)) dX12_behind_3 ?_ (sx_out G (fun z hz => (hxt z hz).elim))
  refine s_callV G (mX12_needs EN) q1558 q1560 (sel_cons (r := (RX12, TX12, 2)) (by decide) rfl qs24 (sel_nil)) q107 q1561 nmk_195 (rm_of hF (Nat.le_of_ble_eq_true rfl) (Nat.le_of_ble_eq_true rfl)) dX12_behind_6 ?_ (sx_out G (fun z hz => (hxt z hz).elim))
  refine s_aload_n rfl G.b dX12_behind_9 ?_
  refine s_iload_n rfl G.b dX12_behind_10 ?_
  refine s_callV G (mX12_number EN) q1616 q1618 (sel_cons (r := (RX12, TX12, 2)) (by decide) rfl qs25 (sel_nil)) q107 q1619 nmk_197 (rm_of hF (Nat.le_of_ble_eq_true rfl) (Nat.le_of_ble_eq_true rfl)) dX12_behind_11 ?_ (sx_out G (fun z hz => (hxt z hz).elim))
  exact s_ireturn G dX12_behind_14
set_option maxHeartbeats 4000000 in
theorem mX12_behind {l : Launch} {D : DE} {s0 : State} {E : Nat → Value} (EN : EV l D s0 E) : rMet l D s0 yX12_behind (ws_ yX12_behind cX12_behind 3 (Option.some Jvm.ClassFile.FieldType.int)) 8 195 (wX12_behind E) := by
  refine body_met (fun _ => false) EN.kn (fun w h => h) (by decide +kernel) rfl (fun av h Q hw => ?_) ?_
  · unfold wX12_behind at hw
    split at hw
    · exact Nat.le_of_ble_eq_true rfl
    · exact hw.elim
  · intro p e s m below meth c av h Q hxt G hw
    unfold wX12_behind at hw
    split at hw
    · exact tX12_behind_0 EN G ⟨rfl, rfl⟩ rfl hxt _ _ _ hw
    · exact hw.elim
/-! ChantRules$Reader.sounds()I (X12_sounds) -/
def bX12_sounds_43 (E : Nat → Value) (Q : Rs → HS → Prop) (X9 : Ct) : Ct :=
  o_new 6 7 [.null, .null, .null, .null, .null, .int 0, .int 0] <|
  o_dup <|
  o_aload 0 <|
  o_getf [5] 0 <|
  o_callI 2 (wX13_init E) (x_out Q) <|
  o_athrow (x_out Q)
def bX12_sounds_37 (E : Nat → Value) (Q : Rs → HS → Prop) (X9 : Ct) : Ct :=
  o_iinc 3 1 <|
  X9
def bX12_sounds_25 (E : Nat → Value) (Q : Rs → HS → Prop) (X9 : Ct) : Ct :=
  o_callV [5] 2 (wX12_takes E) (x_out Q) <|
  o_ifeq (bX12_sounds_37 E Q X9) <|
  o_aload 4 <|
  o_callV [21, 22] 1 (wJ8_ordinal E) (x_out Q) <|
  o_ireturn .int Q
def bX12_sounds_9 (E : Nat → Value) (Q : Rs → HS → Prop) (X9 : Ct) : Ct :=
  o_iload 3 <|
  o_iload 2 <|
  o_icmpge (bX12_sounds_43 E Q X9) <|
  o_aload 1 <|
  o_iload 3 <|
  o_ald [103, 104, 105, 106, 107] <|
  o_astore 4 <|
  o_aload 0 <|
  o_aload 4 <|
  o_vsel 1 [21] (o_callV [21] 1 (wX4_sign E) (x_out Q) (bX12_sounds_25 E Q X9)) (o_sign1 (bX12_sounds_25 E Q X9))
def bX12_sounds_0 (E : Nat → Value) (Q : Rs → HS → Prop) (X9 : Ct) : Ct :=
  o_call 0 (wX4_values E) (x_out Q) <|
  o_astore 1 <|
  o_aload 1 <|
  o_alen <|
  o_istore 2 <|
  o_push (.int 0) <|
  o_istore 3 <|
  X9
def wX12_sounds (E : Nat → Value) : Wp := fun av h Q => match av with
  | [a0] => ∀ X9 : Ct, (∀ ls st h, bX12_sounds_9 E Q X9 ls st h → X9 ls st h) → bX12_sounds_0 E Q X9 [a0, jk, jk, jk, jk] [] h
  | _ => False
set_option maxHeartbeats 4000000 in
theorem tX12_sounds_43 {x : CX} {E : Nat → Value} {Q : Rs → HS → Prop} {X9 : Ct} (EN : EX x E) (G : Gd x cX12_sounds "ChantRules$Reader" yX12_sounds 5 (Option.some Jvm.ClassFile.FieldType.int) Q) (hF : x.1.2.2.2.frames = 9 ∧ x.1.2.2.2.locals = 219) (hC : x.2.2.2.2.2 = (fun _ => false)) (hxt : (∀ z ∈ x.2.2.1.2.1.exceptionTable.toList, False)) (h9 : Snd x 9 X9) : Snd x 43 (bX12_sounds_43 E Q X9) := by
  unfold bX12_sounds_43
  refine s_new (C := RX13) (T0 := TX13) (N := 7) G.b G.ow G.kn G.gr G.hts rfl (by decide) in_X13 q1562 q1563 q111 tyX13 tyX13_ok rfl dX12_sounds_43 ?_
  refine s_dup G.b dX12_sounds_46 ?_
  refine s_aload_n rfl G.b dX12_sounds_47 ?_
  refine s_getf G.b G.ow G.kn (G.hts _ q1461) (fun _ h => h) fa_66 dX12_sounds_48 ?_
  refine s_callI G (mX13_init EN) rfl q1571 q1572 q111 q1573 nmk_193 (rm_of hF (Nat.le_of_ble_eq_true rfl) (Nat.le_of_ble_eq_true rfl)) dX12_sounds_51 ?_ (sx_out G (fun z hz => (hxt z hz).elim))
  exact s_athrow G.b G.kn dX12_sounds_54 (sx_out G (fun z hz => (hxt z hz).elim))
set_option maxHeartbeats 4000000 in
theorem tX12_sounds_37 {x : CX} {E : Nat → Value} {Q : Rs → HS → Prop} {X9 : Ct} (EN : EX x E) (G : Gd x cX12_sounds "ChantRules$Reader" yX12_sounds 5 (Option.some Jvm.ClassFile.FieldType.int) Q) (hF : x.1.2.2.2.frames = 9 ∧ x.1.2.2.2.locals = 219) (hC : x.2.2.2.2.2 = (fun _ => false)) (hxt : (∀ z ∈ x.2.2.1.2.1.exceptionTable.toList, False)) (h9 : Snd x 9 X9) : Snd x 37 (bX12_sounds_37 E Q X9) := by
  unfold bX12_sounds_37
  refine s_iinc (by decide) G.b (by rw [G.nl]; decide) (fun _ _ => by rw [hC]) dX12_sounds_37 ?_
  exact s_goto (tgt := 9) G.b dX12_sounds_40 (by decide) h9
set_option maxHeartbeats 4000000 in
theorem tX12_sounds_25 {x : CX} {E : Nat → Value} {Q : Rs → HS → Prop} {X9 : Ct} (EN : EX x E) (G : Gd x cX12_sounds "ChantRules$Reader" yX12_sounds 5 (Option.some Jvm.ClassFile.FieldType.int) Q) (hF : x.1.2.2.2.frames = 9 ∧ x.1.2.2.2.locals = 219) (hC : x.2.2.2.2.2 = (fun _ => false)) (hxt : (∀ z ∈ x.2.2.1.2.1.exceptionTable.toList, False)) (h9 : Snd x 9 X9) : Snd x 25 (bX12_sounds_25 E Q X9) := by
  unfold bX12_sounds_25
  refine s_callV G (mX12_takes EN) q1625 q1627 (sel_cons (r := (RX12, TX12, 2)) (by decide) rfl qs27 (sel_nil)) q107 q1628 nmk_196 (rm_of hF (Nat.le_of_ble_eq_true rfl) (Nat.le_of_ble_eq_true rfl)) dX12_sounds_25 ?_ (sx_out G (fun z hz => (hxt z hz).elim))
  refine s_ifeq (tgt := 37) G.b dX12_sounds_28 (by decide) (tX12_sounds_37 EN G hF hC hxt h9) ?_
  refine s_aload G.b dX12_sounds_31 ?_
  refine s_callVU (w := ⟨"ChantRules$Sound", "ordinal", "()I"⟩) (owner := "java/lang/Enum") G (mJ8_ordinal EN) q1639 q275 (va_Decl.of (G.hts _ q279) (G.hts _ q280)) (by decide +kernel) q279 (sel_cons (r := (RSnd, TSnd, 1)) (by decide) rfl q277 (sel_cons (r := (RSnd1, TSnd, 1)) (by decide) rfl q278 (sel_nil))) q88 q280 nmk_8 (rm_of hF (Nat.le_of_ble_eq_true rfl) (Nat.le_of_ble_eq_true rfl)) dX12_sounds_33 ?_ (sx_out G (fun z hz => (hxt z hz).elim))
  exact s_ireturn G dX12_sounds_36
set_option maxHeartbeats 4000000 in
theorem tX12_sounds_9 {x : CX} {E : Nat → Value} {Q : Rs → HS → Prop} {X9 : Ct} (EN : EX x E) (G : Gd x cX12_sounds "ChantRules$Reader" yX12_sounds 5 (Option.some Jvm.ClassFile.FieldType.int) Q) (hF : x.1.2.2.2.frames = 9 ∧ x.1.2.2.2.locals = 219) (hC : x.2.2.2.2.2 = (fun _ => false)) (hxt : (∀ z ∈ x.2.2.1.2.1.exceptionTable.toList, False)) (h9 : Snd x 9 X9) : Snd x 9 (bX12_sounds_9 E Q X9) := by
  unfold bX12_sounds_9
  refine s_iload_n rfl G.b dX12_sounds_9 ?_
  refine s_iload_n rfl G.b dX12_sounds_10 ?_
  refine s_icmpge (tgt := 43) G.b dX12_sounds_11 (by decide) (tX12_sounds_43 EN G hF hC hxt h9) ?_
  refine s_aload_n rfl G.b dX12_sounds_14 ?_
  refine s_iload_n rfl G.b dX12_sounds_15 ?_
  refine s_aald G.b G.kn dX12_sounds_16 ?_
  refine s_astore G.b (by rw [G.nl]; decide) (fun _ _ => by rw [hC]) dX12_sounds_17 ?_
  refine s_aload_n rfl G.b dX12_sounds_19 ?_
  refine s_aload G.b dX12_sounds_20 ?_
  exact (s_vsel (s_callV G (mX4_sign EN) q1638 q1120 (sel_cons (r := (RSnd, TSnd, 1)) (by decide) rfl q1121 (sel_nil)) q89 q1126 nmk_185 (rm_of hF (Nat.le_of_ble_eq_true rfl) (Nat.le_of_ble_eq_true rfl)) dX12_sounds_22 (tX12_sounds_25 EN G hF hC hxt h9) (sx_out G (fun z hz => (hxt z hz).elim)) ) (s_sign1 EN G (rm_of hF (Nat.le_of_ble_eq_true rfl) (Nat.le_of_ble_eq_true rfl)) q1638 dX12_sounds_22 (tX12_sounds_25 EN G hF hC hxt h9) ))
set_option maxHeartbeats 4000000 in
theorem tX12_sounds_0 {x : CX} {E : Nat → Value} {Q : Rs → HS → Prop} {X9 : Ct} (EN : EX x E) (G : Gd x cX12_sounds "ChantRules$Reader" yX12_sounds 5 (Option.some Jvm.ClassFile.FieldType.int) Q) (hF : x.1.2.2.2.frames = 9 ∧ x.1.2.2.2.locals = 219) (hC : x.2.2.2.2.2 = (fun _ => false)) (hxt : (∀ z ∈ x.2.2.1.2.1.exceptionTable.toList, False)) (h9 : Snd x 9 X9) : Snd x 0 (bX12_sounds_0 E Q X9) := by
  unfold bX12_sounds_0
  refine s_callS G (mX4_values EN) q1637 q262 q89 q263 nmk_12 (rm_of hF (Nat.le_of_ble_eq_true rfl) (Nat.le_of_ble_eq_true rfl)) dX12_sounds_0 ?_ (sx_out G (fun z hz => (hxt z hz).elim))
  refine s_astore_n rfl G.b (by rw [G.nl]; decide) (fun _ _ => by rw [hC]) dX12_sounds_3 ?_
  refine s_aload_n rfl G.b dX12_sounds_4 ?_
  refine s_alen G.b G.kn dX12_sounds_5 ?_
  refine s_istore_n rfl G.b (by rw [G.nl]; decide) (fun _ _ => by rw [hC]) dX12_sounds_6 ?_
  refine s_iconst (by decide) G.b dX12_sounds_7 ?_
  refine s_istore_n rfl G.b (by rw [G.nl]; decide) (fun _ _ => by rw [hC]) dX12_sounds_8 ?_
  exact h9
set_option maxHeartbeats 4000000 in
theorem mX12_sounds {l : Launch} {D : DE} {s0 : State} {E : Nat → Value} (EN : EV l D s0 E) : rMet l D s0 yX12_sounds (ws_ yX12_sounds cX12_sounds 5 (Option.some Jvm.ClassFile.FieldType.int)) 9 219 (wX12_sounds E) := by
  refine body_met (fun _ => false) EN.kn (fun w h => h) (by decide +kernel) rfl (fun av h Q hw => ?_) ?_
  · unfold wX12_sounds at hw
    split at hw
    · exact Nat.le_of_ble_eq_true rfl
    · exact hw.elim
  · intro p e s m below meth c av h Q hxt G hw
    unfold wX12_sounds at hw
    split at hw
    · exact tX12_sounds_0 EN G ⟨rfl, rfl⟩ rfl hxt (fun _ _ _ h => h) _ _ _ (hw (AW _ 9) (tX12_sounds_9 EN G ⟨rfl, rfl⟩ rfl hxt (fun _ _ _ h => h)))
    · exact hw.elim
/-! ChantRules$Reader.arc(LChantRules$Command;)V (X12_arc) -/
theorem nmk_198 : nm_ok yX12_behind 2 := ⟨by decide +kernel, by decide +kernel, by decide +kernel⟩
theorem nmk_199 : nm_ok yX12_sounds 0 := ⟨by decide +kernel, by decide +kernel, by decide +kernel⟩
def bX12_arc_0 (E : Nat → Value) (Q : Rs → HS → Prop) : Ct :=
  o_aload 1 <|
  o_aload 0 <|
  o_push (.int 58) <|
  o_push (.int 1) <|
  o_callV [5] 3 (wX12_behind E) (x_out Q) <|
  o_putf [7] 2 .int <|
  o_aload 1 <|
  o_aload 0 <|
  o_push (.int 62) <|
  o_push (.int 1) <|
  o_callV [5] 3 (wX12_behind E) (x_out Q) <|
  o_putf [7] 3 .int <|
  o_aload 0 <|
  o_aload 0 <|
  o_push (.int 32) <|
  o_callV [5] 2 (wX12_takes E) (x_out Q) <|
  o_callV [5] 2 (wX12_needs E) (x_out Q) <|
  o_aload 1 <|
  o_aload 0 <|
  o_callV [5] 1 (wX12_sounds E) (x_out Q) <|
  o_putf [7] 4 .int <|
  o_aload 0 <|
  o_aload 0 <|
  o_push (.int 47) <|
  o_callV [5] 2 (wX12_takes E) (x_out Q) <|
  o_callV [5] 2 (wX12_needs E) (x_out Q) <|
  o_aload 1 <|
  o_aload 0 <|
  o_callV [5] 1 (wX12_sounds E) (x_out Q) <|
  o_putf [7] 5 .int <|
  o_aload 1 <|
  o_aload 0 <|
  o_push (.int 61) <|
  o_push (.int 1) <|
  o_callV [5] 3 (wX12_behind E) (x_out Q) <|
  o_putf [7] 6 .int <|
  o_return Q
def wX12_arc (E : Nat → Value) : Wp := fun av h Q => match av with
  | [a0, a1] => bX12_arc_0 E Q [a0, a1] [] h
  | _ => False
set_option maxHeartbeats 4000000 in
theorem tX12_arc_0 {x : CX} {E : Nat → Value} {Q : Rs → HS → Prop} (EN : EX x E) (G : Gd x cX12_arc "ChantRules$Reader" yX12_arc 2 (Option.none : Option Jvm.ClassFile.FieldType) Q) (hF : x.1.2.2.2.frames = 10 ∧ x.1.2.2.2.locals = 243) (hC : x.2.2.2.2.2 = (fun _ => false)) (hxt : (∀ z ∈ x.2.2.1.2.1.exceptionTable.toList, False)) : Snd x 0 (bX12_arc_0 E Q) := by
  unfold bX12_arc_0
  refine s_aload_n rfl G.b dX12_arc_0 ?_
  refine s_aload_n rfl G.b dX12_arc_1 ?_
  refine s_bipush (by decide) G.b dX12_arc_2 ?_
  refine s_iconst (by decide) G.b dX12_arc_4 ?_
  refine s_callV G (mX12_behind EN) q1621 q1623 (sel_cons (r := (RX12, TX12, 2)) (by decide) rfl qs26 (sel_nil)) q107 q1624 nmk_198 (rm_of hF (Nat.le_of_ble_eq_true rfl) (Nat.le_of_ble_eq_true rfl)) dX12_arc_5 ?_ (sx_out G (fun z hz => (hxt z hz).elim))
  refine s_putfN G.b G.ow G.kn (va_Nw.use rfl (va_Nw.warmF G.warm (EN.nw q1592 rfl))) (fun _ h => h) fa_56 (la_cons (r := (RX14, TX14, 7)) G.hts (by decide) rfl q1605 (la_nil)) (by decide +kernel) dX12_arc_8 ?_
  refine s_aload_n rfl G.b dX12_arc_11 ?_
  refine s_aload_n rfl G.b dX12_arc_12 ?_
  refine s_bipush (by decide) G.b dX12_arc_13 ?_
  refine s_iconst (by decide) G.b dX12_arc_15 ?_
  refine s_callV G (mX12_behind EN) q1621 q1623 (sel_cons (r := (RX12, TX12, 2)) (by decide) rfl qs26 (sel_nil)) q107 q1624 nmk_198 (rm_of hF (Nat.le_of_ble_eq_true rfl) (Nat.le_of_ble_eq_true rfl)) dX12_arc_16 ?_ (sx_out G (fun z hz => (hxt z hz).elim))
  refine s_putfN G.b G.ow G.kn (va_Nw.use rfl (va_Nw.warmF G.warm (EN.nw q1594 rfl))) (fun _ h => h) fa_57 (la_cons (r := (RX14, TX14, 7)) G.hts (by decide) rfl q1607 (la_nil)) (by decide +kernel) dX12_arc_19 ?_
  refine s_aload_n rfl G.b dX12_arc_22 ?_
  refine s_aload_n rfl G.b dX12_arc_23 ?_
  refine s_bipush (by decide) G.b dX12_arc_24 ?_
  refine s_callV G (mX12_takes EN) q1625 q1627 (sel_cons (r := (RX12, TX12, 2)) (by decide) rfl qs27 (sel_nil)) q107 q1628 nmk_196 (rm_of hF (Nat.le_of_ble_eq_true rfl) (Nat.le_of_ble_eq_true rfl)) dX12_arc_26 ?_ (sx_out G (fun z hz => (hxt z hz).elim))
  refine s_callV G (mX12_needs EN) q1558 q1560 (sel_cons (r := (RX12, TX12, 2)) (by decide) rfl qs24 (sel_nil)) q107 q1561 nmk_195 (rm_of hF (Nat.le_of_ble_eq_true rfl) (Nat.le_of_ble_eq_true rfl)) dX12_arc_29 ?_ (sx_out G (fun z hz => (hxt z hz).elim))
  refine s_aload_n rfl G.b dX12_arc_32 ?_
  refine s_aload_n rfl G.b dX12_arc_33 ?_
  refine s_callV G (mX12_sounds EN) q1633 q1635 (sel_cons (r := (RX12, TX12, 2)) (by decide) rfl qs29 (sel_nil)) q107 q1636 nmk_199 (rm_of hF (Nat.le_of_ble_eq_true rfl) (Nat.le_of_ble_eq_true rfl)) dX12_arc_34 ?_ (sx_out G (fun z hz => (hxt z hz).elim))
  refine s_putfN G.b G.ow G.kn (va_Nw.use rfl (va_Nw.warmF G.warm (EN.nw q1596 rfl))) (fun _ h => h) fa_58 (la_cons (r := (RX14, TX14, 7)) G.hts (by decide) rfl q1609 (la_nil)) (by decide +kernel) dX12_arc_37 ?_
  refine s_aload_n rfl G.b dX12_arc_40 ?_
  refine s_aload_n rfl G.b dX12_arc_41 ?_
  refine s_bipush (by decide) G.b dX12_arc_42 ?_
  refine s_callV G (mX12_takes EN) q1625 q1627 (sel_cons (r := (RX12, TX12, 2)) (by decide) rfl qs27 (sel_nil)) q107 q1628 nmk_196 (rm_of hF (Nat.le_of_ble_eq_true rfl) (Nat.le_of_ble_eq_true rfl)) dX12_arc_44 ?_ (sx_out G (fun z hz => (hxt z hz).elim))
  refine s_callV G (mX12_needs EN) q1558 q1560 (sel_cons (r := (RX12, TX12, 2)) (by decide) rfl qs24 (sel_nil)) q107 q1561 nmk_195 (rm_of hF (Nat.le_of_ble_eq_true rfl) (Nat.le_of_ble_eq_true rfl)) dX12_arc_47 ?_ (sx_out G (fun z hz => (hxt z hz).elim))
  refine s_aload_n rfl G.b dX12_arc_50 ?_
  refine s_aload_n rfl G.b dX12_arc_51 ?_
  refine s_callV G (mX12_sounds EN) q1633 q1635 (sel_cons (r := (RX12, TX12, 2)) (by decide) rfl qs29 (sel_nil)) q107 q1636 nmk_199 (rm_of hF (Nat.le_of_ble_eq_true rfl) (Nat.le_of_ble_eq_true rfl)) dX12_arc_52 ?_ (sx_out G (fun z hz => (hxt z hz).elim))
  refine s_putfN G.b G.ow G.kn (va_Nw.use rfl (va_Nw.warmF G.warm (EN.nw q1598 rfl))) (fun _ h => h) fa_59 (la_cons (r := (RX14, TX14, 7)) G.hts (by decide) rfl q1611 (la_nil)) (by decide +kernel) dX12_arc_55 ?_
  refine s_aload_n rfl G.b dX12_arc_58 ?_
  refine s_aload_n rfl G.b dX12_arc_59 ?_
  refine s_bipush (by decide) G.b dX12_arc_60 ?_
  refine s_iconst (by decide) G.b dX12_arc_62 ?_
  refine s_callV G (mX12_behind EN) q1621 q1623 (sel_cons (r := (RX12, TX12, 2)) (by decide) rfl qs26 (sel_nil)) q107 q1624 nmk_198 (rm_of hF (Nat.le_of_ble_eq_true rfl) (Nat.le_of_ble_eq_true rfl)) dX12_arc_63 ?_ (sx_out G (fun z hz => (hxt z hz).elim))
  refine s_putfN G.b G.ow G.kn (va_Nw.use rfl (va_Nw.warmF G.warm (EN.nw q1600 rfl))) (fun _ h => h) fa_60 (la_cons (r := (RX14, TX14, 7)) G.hts (by decide) rfl q1613 (la_nil)) (by decide +kernel) dX12_arc_66 ?_
  exact s_return G dX12_arc_69
set_option maxHeartbeats 4000000 in
theorem mX12_arc {l : Launch} {D : DE} {s0 : State} {E : Nat → Value} (EN : EV l D s0 E) : rMet l D s0 yX12_arc (ws_ yX12_arc cX12_arc 2 (Option.none : Option Jvm.ClassFile.FieldType)) 10 243 (wX12_arc E) := by
  refine body_met (fun _ => false) EN.kn (fun w h => h) (by decide +kernel) rfl (fun av h Q hw => ?_) ?_
  · unfold wX12_arc at hw
    split at hw
    · exact Nat.le_of_ble_eq_true rfl
    · exact hw.elim
  · intro p e s m below meth c av h Q hxt G hw
    unfold wX12_arc at hw
    split at hw
    · exact tX12_arc_0 EN G ⟨rfl, rfl⟩ rfl hxt _ _ _ hw
    · exact hw.elim
/-! java/lang/StringLatin1.canEncode(I)Z (J17_canEncode_2) -/
def bJ17_canEncode_2_16 (E : Nat → Value) (Q : Rs → HS → Prop) : Ct :=
  o_ireturn .boolean Q
def bJ17_canEncode_2_15 (E : Nat → Value) (Q : Rs → HS → Prop) : Ct :=
  o_push (.int 0) <|
  (bJ17_canEncode_2_16 E Q)
def bJ17_canEncode_2_0 (E : Nat → Value) (Q : Rs → HS → Prop) : Ct :=
  o_iload 0 <|
  o_iflt (bJ17_canEncode_2_15 E Q) <|
  o_iload 0 <|
  o_push (.int 255) <|
  o_icmpgt (bJ17_canEncode_2_15 E Q) <|
  o_push (.int 1) <|
  (bJ17_canEncode_2_16 E Q)
def wJ17_canEncode_2 (E : Nat → Value) : Wp := fun av h Q => match av with
  | [a0] => bJ17_canEncode_2_0 E Q [a0] [] h
  | _ => False
set_option maxHeartbeats 4000000 in
theorem tJ17_canEncode_2_16 {x : CX} {E : Nat → Value} {Q : Rs → HS → Prop} (EN : EX x E) (G : Gd x cJ17_canEncode_2 "java/lang/StringLatin1" yJ17_canEncode_2 1 (Option.some Jvm.ClassFile.FieldType.boolean) Q) (hF : x.1.2.2.2.frames = 2 ∧ x.1.2.2.2.locals = 64) (hC : x.2.2.2.2.2 = (fun _ => false)) (hxt : (∀ z ∈ x.2.2.1.2.1.exceptionTable.toList, False)) : Snd x 16 (bJ17_canEncode_2_16 E Q) := by
  unfold bJ17_canEncode_2_16
  exact s_ireturn G dJ17_canEncode_2_16
set_option maxHeartbeats 4000000 in
theorem tJ17_canEncode_2_15 {x : CX} {E : Nat → Value} {Q : Rs → HS → Prop} (EN : EX x E) (G : Gd x cJ17_canEncode_2 "java/lang/StringLatin1" yJ17_canEncode_2 1 (Option.some Jvm.ClassFile.FieldType.boolean) Q) (hF : x.1.2.2.2.frames = 2 ∧ x.1.2.2.2.locals = 64) (hC : x.2.2.2.2.2 = (fun _ => false)) (hxt : (∀ z ∈ x.2.2.1.2.1.exceptionTable.toList, False)) : Snd x 15 (bJ17_canEncode_2_15 E Q) := by
  unfold bJ17_canEncode_2_15
  refine s_iconst (by decide) G.b dJ17_canEncode_2_15 ?_
  exact (tJ17_canEncode_2_16 EN G hF hC hxt)
set_option maxHeartbeats 4000000 in
theorem tJ17_canEncode_2_0 {x : CX} {E : Nat → Value} {Q : Rs → HS → Prop} (EN : EX x E) (G : Gd x cJ17_canEncode_2 "java/lang/StringLatin1" yJ17_canEncode_2 1 (Option.some Jvm.ClassFile.FieldType.boolean) Q) (hF : x.1.2.2.2.frames = 2 ∧ x.1.2.2.2.locals = 64) (hC : x.2.2.2.2.2 = (fun _ => false)) (hxt : (∀ z ∈ x.2.2.1.2.1.exceptionTable.toList, False)) : Snd x 0 (bJ17_canEncode_2_0 E Q) := by
  unfold bJ17_canEncode_2_0
  refine s_iload_n rfl G.b dJ17_canEncode_2_0 ?_
  refine s_iflt (tgt := 15) G.b dJ17_canEncode_2_1 (by decide) (tJ17_canEncode_2_15 EN G hF hC hxt) ?_
  refine s_iload_n rfl G.b dJ17_canEncode_2_4 ?_
  refine s_sipush (by decide) G.b dJ17_canEncode_2_5 ?_
  refine s_icmpgt (tgt := 15) G.b dJ17_canEncode_2_8 (by decide) (tJ17_canEncode_2_15 EN G hF hC hxt) ?_
  refine s_iconst (by decide) G.b dJ17_canEncode_2_11 ?_
  exact s_goto (tgt := 16) G.b dJ17_canEncode_2_12 (by decide) (tJ17_canEncode_2_16 EN G hF hC hxt)
set_option maxHeartbeats 4000000 in
theorem mJ17_canEncode_2 {l : Launch} {D : DE} {s0 : State} {E : Nat → Value} (EN : EV l D s0 E) : rMet l D s0 yJ17_canEncode_2 (ws_ yJ17_canEncode_2 cJ17_canEncode_2 1 (Option.some Jvm.ClassFile.FieldType.boolean)) 2 64 (wJ17_canEncode_2 E) := by
  refine body_met (fun _ => false) EN.kn (fun w h => h) (by decide +kernel) rfl (fun av h Q hw => ?_) ?_
  · unfold wJ17_canEncode_2 at hw
    split at hw
    · exact Nat.le_of_ble_eq_true rfl
    · exact hw.elim
  · intro p e s m below meth c av h Q hxt G hw
    unfold wJ17_canEncode_2 at hw
    split at hw
    · exact tJ17_canEncode_2_0 EN G ⟨rfl, rfl⟩ rfl hxt _ _ _ hw
    · exact hw.elim
/-! java/lang/StringLatin1.indexOfChar([BIII)I (J17_indexOfChar) -/
def bJ17_indexOfChar_31 (E : Nat → Value) (Q : Rs → HS → Prop) (X7 : Ct) : Ct :=
  o_push (.int (-1)) <|
  o_ireturn .int Q
def bJ17_indexOfChar_25 (E : Nat → Value) (Q : Rs → HS → Prop) (X7 : Ct) : Ct :=
  o_iinc 5 1 <|
  X7
def bJ17_indexOfChar_7 (E : Nat → Value) (Q : Rs → HS → Prop) (X7 : Ct) : Ct :=
  o_iload 5 <|
  o_iload 3 <|
  o_icmpge (bJ17_indexOfChar_31 E Q X7) <|
  o_aload 0 <|
  o_iload 5 <|
  o_ald [101, 102] <|
  o_iload 4 <|
  o_icmpne (bJ17_indexOfChar_25 E Q X7) <|
  o_iload 5 <|
  o_ireturn .int Q
def bJ17_indexOfChar_0 (E : Nat → Value) (Q : Rs → HS → Prop) (X7 : Ct) : Ct :=
  o_iload 1 <|
  o_i2b <|
  o_istore 4 <|
  o_iload 2 <|
  o_istore 5 <|
  X7
def wJ17_indexOfChar (E : Nat → Value) : Wp := fun av h Q => match av with
  | [a0, a1, a2, a3] => ∀ X7 : Ct, (∀ ls st h, bJ17_indexOfChar_7 E Q X7 ls st h → X7 ls st h) → bJ17_indexOfChar_0 E Q X7 [a0, a1, a2, a3, jk, jk] [] h
  | _ => False
set_option maxHeartbeats 4000000 in
theorem tJ17_indexOfChar_31 {x : CX} {E : Nat → Value} {Q : Rs → HS → Prop} {X7 : Ct} (EN : EX x E) (G : Gd x cJ17_indexOfChar "java/lang/StringLatin1" yJ17_indexOfChar 6 (Option.some Jvm.ClassFile.FieldType.int) Q) (hF : x.1.2.2.2.frames = 2 ∧ x.1.2.2.2.locals = 64) (hC : x.2.2.2.2.2 = (fun _ => false)) (hxt : (∀ z ∈ x.2.2.1.2.1.exceptionTable.toList, False)) (h7 : Snd x 7 X7) : Snd x 31 (bJ17_indexOfChar_31 E Q X7) := by
  unfold bJ17_indexOfChar_31
  refine s_iconst (by decide) G.b dJ17_indexOfChar_31 ?_
  exact s_ireturn G dJ17_indexOfChar_32
set_option maxHeartbeats 4000000 in
theorem tJ17_indexOfChar_25 {x : CX} {E : Nat → Value} {Q : Rs → HS → Prop} {X7 : Ct} (EN : EX x E) (G : Gd x cJ17_indexOfChar "java/lang/StringLatin1" yJ17_indexOfChar 6 (Option.some Jvm.ClassFile.FieldType.int) Q) (hF : x.1.2.2.2.frames = 2 ∧ x.1.2.2.2.locals = 64) (hC : x.2.2.2.2.2 = (fun _ => false)) (hxt : (∀ z ∈ x.2.2.1.2.1.exceptionTable.toList, False)) (h7 : Snd x 7 X7) : Snd x 25 (bJ17_indexOfChar_25 E Q X7) := by
  unfold bJ17_indexOfChar_25
  refine s_iinc (by decide) G.b (by rw [G.nl]; decide) (fun _ _ => by rw [hC]) dJ17_indexOfChar_25 ?_
  exact s_goto (tgt := 7) G.b dJ17_indexOfChar_28 (by decide) h7
set_option maxHeartbeats 4000000 in
theorem tJ17_indexOfChar_7 {x : CX} {E : Nat → Value} {Q : Rs → HS → Prop} {X7 : Ct} (EN : EX x E) (G : Gd x cJ17_indexOfChar "java/lang/StringLatin1" yJ17_indexOfChar 6 (Option.some Jvm.ClassFile.FieldType.int) Q) (hF : x.1.2.2.2.frames = 2 ∧ x.1.2.2.2.locals = 64) (hC : x.2.2.2.2.2 = (fun _ => false)) (hxt : (∀ z ∈ x.2.2.1.2.1.exceptionTable.toList, False)) (h7 : Snd x 7 X7) : Snd x 7 (bJ17_indexOfChar_7 E Q X7) := by
  unfold bJ17_indexOfChar_7
  refine s_iload G.b dJ17_indexOfChar_7 ?_
  refine s_iload_n rfl G.b dJ17_indexOfChar_9 ?_
  refine s_icmpge (tgt := 31) G.b dJ17_indexOfChar_10 (by decide) (tJ17_indexOfChar_31 EN G hF hC hxt h7) ?_
  refine s_aload_n rfl G.b dJ17_indexOfChar_13 ?_
  refine s_iload G.b dJ17_indexOfChar_14 ?_
  refine s_bald G.b G.kn dJ17_indexOfChar_16 ?_
  refine s_iload G.b dJ17_indexOfChar_17 ?_
  refine s_icmpne (tgt := 25) G.b dJ17_indexOfChar_19 (by decide) (tJ17_indexOfChar_25 EN G hF hC hxt h7) ?_
  refine s_iload G.b dJ17_indexOfChar_22 ?_
  exact s_ireturn G dJ17_indexOfChar_24
set_option maxHeartbeats 4000000 in
theorem tJ17_indexOfChar_0 {x : CX} {E : Nat → Value} {Q : Rs → HS → Prop} {X7 : Ct} (EN : EX x E) (G : Gd x cJ17_indexOfChar "java/lang/StringLatin1" yJ17_indexOfChar 6 (Option.some Jvm.ClassFile.FieldType.int) Q) (hF : x.1.2.2.2.frames = 2 ∧ x.1.2.2.2.locals = 64) (hC : x.2.2.2.2.2 = (fun _ => false)) (hxt : (∀ z ∈ x.2.2.1.2.1.exceptionTable.toList, False)) (h7 : Snd x 7 X7) : Snd x 0 (bJ17_indexOfChar_0 E Q X7) := by
  unfold bJ17_indexOfChar_0
  refine s_iload_n rfl G.b dJ17_indexOfChar_0 ?_
  refine s_i2b G.b dJ17_indexOfChar_1 ?_
  refine s_istore G.b (by rw [G.nl]; decide) (fun _ _ => by rw [hC]) dJ17_indexOfChar_2 ?_
  refine s_iload_n rfl G.b dJ17_indexOfChar_4 ?_
  refine s_istore G.b (by rw [G.nl]; decide) (fun _ _ => by rw [hC]) dJ17_indexOfChar_5 ?_
  exact h7
set_option maxHeartbeats 4000000 in
theorem mJ17_indexOfChar {l : Launch} {D : DE} {s0 : State} {E : Nat → Value} (EN : EV l D s0 E) : rMet l D s0 yJ17_indexOfChar (ws_ yJ17_indexOfChar cJ17_indexOfChar 6 (Option.some Jvm.ClassFile.FieldType.int)) 2 64 (wJ17_indexOfChar E) := by
  refine body_met (fun _ => false) EN.kn (fun w h => h) (by decide +kernel) rfl (fun av h Q hw => ?_) ?_
  · unfold wJ17_indexOfChar at hw
    split at hw
    · exact Nat.le_of_ble_eq_true rfl
    · exact hw.elim
  · intro p e s m below meth c av h Q hxt G hw
    unfold wJ17_indexOfChar at hw
    split at hw
    · exact tJ17_indexOfChar_0 EN G ⟨rfl, rfl⟩ rfl hxt (fun _ _ _ h => h) _ _ _ (hw (AW _ 7) (tJ17_indexOfChar_7 EN G ⟨rfl, rfl⟩ rfl hxt (fun _ _ _ h => h)))
    · exact hw.elim
/-! java/lang/StringLatin1.indexOf([BIII)I (J17_indexOf) -/
theorem nmk_200 : nm_ok yJ17_indexOfChar 4 := ⟨by decide +kernel, by decide +kernel, by decide +kernel⟩
theorem nmk_201 : nm_ok yJ17_canEncode_2 1 := ⟨by decide +kernel, by decide +kernel, by decide +kernel⟩
def bJ17_indexOf_29 (E : Nat → Value) (Q : Rs → HS → Prop) : Ct :=
  o_aload 0 <|
  o_iload 1 <|
  o_iload 2 <|
  o_iload 3 <|
  o_call 4 (wJ17_indexOfChar E) (x_out Q) <|
  o_ireturn .int Q
def bJ17_indexOf_9 (E : Nat → Value) (Q : Rs → HS → Prop) : Ct :=
  o_iload 2 <|
  o_push (.int 0) <|
  o_imax <|
  o_istore 2 <|
  o_iload 3 <|
  o_aload 0 <|
  o_alen <|
  o_imin <|
  o_istore 3 <|
  o_iload 2 <|
  o_iload 3 <|
  o_icmplt (bJ17_indexOf_29 E Q) <|
  o_push (.int (-1)) <|
  o_ireturn .int Q
def bJ17_indexOf_0 (E : Nat → Value) (Q : Rs → HS → Prop) : Ct :=
  o_iload 1 <|
  o_call 1 (wJ17_canEncode_2 E) (x_out Q) <|
  o_ifne (bJ17_indexOf_9 E Q) <|
  o_push (.int (-1)) <|
  o_ireturn .int Q
def wJ17_indexOf (E : Nat → Value) : Wp := fun av h Q => match av with
  | [a0, a1, a2, a3] => bJ17_indexOf_0 E Q [a0, a1, a2, a3] [] h
  | _ => False
set_option maxHeartbeats 4000000 in
theorem tJ17_indexOf_29 {x : CX} {E : Nat → Value} {Q : Rs → HS → Prop} (EN : EX x E) (G : Gd x cJ17_indexOf "java/lang/StringLatin1" yJ17_indexOf 4 (Option.some Jvm.ClassFile.FieldType.int) Q) (hF : x.1.2.2.2.frames = 3 ∧ x.1.2.2.2.locals = 89) (hC : x.2.2.2.2.2 = (fun _ => false)) (hxt : (∀ z ∈ x.2.2.1.2.1.exceptionTable.toList, False)) : Snd x 29 (bJ17_indexOf_29 E Q) := by
  unfold bJ17_indexOf_29
  refine s_aload_n rfl G.b dJ17_indexOf_29 ?_
  refine s_iload_n rfl G.b dJ17_indexOf_30 ?_
  refine s_iload_n rfl G.b dJ17_indexOf_31 ?_
  refine s_iload_n rfl G.b dJ17_indexOf_32 ?_
  refine s_callS G (mJ17_indexOfChar EN) q1520 q1521 q105 q1522 nmk_200 (rm_of hF (Nat.le_of_ble_eq_true rfl) (Nat.le_of_ble_eq_true rfl)) dJ17_indexOf_33 ?_ (sx_out G (fun z hz => (hxt z hz).elim))
  exact s_ireturn G dJ17_indexOf_36
set_option maxHeartbeats 4000000 in
theorem tJ17_indexOf_9 {x : CX} {E : Nat → Value} {Q : Rs → HS → Prop} (EN : EX x E) (G : Gd x cJ17_indexOf "java/lang/StringLatin1" yJ17_indexOf 4 (Option.some Jvm.ClassFile.FieldType.int) Q) (hF : x.1.2.2.2.frames = 3 ∧ x.1.2.2.2.locals = 89) (hC : x.2.2.2.2.2 = (fun _ => false)) (hxt : (∀ z ∈ x.2.2.1.2.1.exceptionTable.toList, False)) : Snd x 9 (bJ17_indexOf_9 E Q) := by
  unfold bJ17_indexOf_9
  refine s_iload_n rfl G.b dJ17_indexOf_9 ?_
  refine s_iconst (by decide) G.b dJ17_indexOf_10 ?_
  refine s_imax G hF ⟨Nat.le_of_ble_eq_true rfl, Nat.le_of_ble_eq_true rfl⟩ q1518 q423 q93 q424 dJ17_indexOf_11 ?_
  refine s_istore_n rfl G.b (by rw [G.nl]; decide) (fun _ _ => by rw [hC]) dJ17_indexOf_14 ?_
  refine s_iload_n rfl G.b dJ17_indexOf_15 ?_
  refine s_aload_n rfl G.b dJ17_indexOf_16 ?_
  refine s_alen G.b G.kn dJ17_indexOf_17 ?_
  refine s_imin G hF ⟨Nat.le_of_ble_eq_true rfl, Nat.le_of_ble_eq_true rfl⟩ q1519 q464 q93 q465 dJ17_indexOf_18 ?_
  refine s_istore_n rfl G.b (by rw [G.nl]; decide) (fun _ _ => by rw [hC]) dJ17_indexOf_21 ?_
  refine s_iload_n rfl G.b dJ17_indexOf_22 ?_
  refine s_iload_n rfl G.b dJ17_indexOf_23 ?_
  refine s_icmplt (tgt := 29) G.b dJ17_indexOf_24 (by decide) (tJ17_indexOf_29 EN G hF hC hxt) ?_
  refine s_iconst (by decide) G.b dJ17_indexOf_27 ?_
  exact s_ireturn G dJ17_indexOf_28
set_option maxHeartbeats 4000000 in
theorem tJ17_indexOf_0 {x : CX} {E : Nat → Value} {Q : Rs → HS → Prop} (EN : EX x E) (G : Gd x cJ17_indexOf "java/lang/StringLatin1" yJ17_indexOf 4 (Option.some Jvm.ClassFile.FieldType.int) Q) (hF : x.1.2.2.2.frames = 3 ∧ x.1.2.2.2.locals = 89) (hC : x.2.2.2.2.2 = (fun _ => false)) (hxt : (∀ z ∈ x.2.2.1.2.1.exceptionTable.toList, False)) : Snd x 0 (bJ17_indexOf_0 E Q) := by
  unfold bJ17_indexOf_0
  refine s_iload_n rfl G.b dJ17_indexOf_0 ?_
  refine s_callS G (mJ17_canEncode_2 EN) q1515 q1516 q105 q1517 nmk_201 (rm_of hF (Nat.le_of_ble_eq_true rfl) (Nat.le_of_ble_eq_true rfl)) dJ17_indexOf_1 ?_ (sx_out G (fun z hz => (hxt z hz).elim))
  refine s_ifne (tgt := 9) G.b dJ17_indexOf_4 (by decide) (tJ17_indexOf_9 EN G hF hC hxt) ?_
  refine s_iconst (by decide) G.b dJ17_indexOf_7 ?_
  exact s_ireturn G dJ17_indexOf_8
set_option maxHeartbeats 4000000 in
theorem mJ17_indexOf {l : Launch} {D : DE} {s0 : State} {E : Nat → Value} (EN : EV l D s0 E) : rMet l D s0 yJ17_indexOf (ws_ yJ17_indexOf cJ17_indexOf 4 (Option.some Jvm.ClassFile.FieldType.int)) 3 89 (wJ17_indexOf E) := by
  refine body_met (fun _ => false) EN.kn (fun w h => h) (by decide +kernel) rfl (fun av h Q hw => ?_) ?_
  · unfold wJ17_indexOf at hw
    split at hw
    · exact Nat.le_of_ble_eq_true rfl
    · exact hw.elim
  · intro p e s m below meth c av h Q hxt G hw
    unfold wJ17_indexOf at hw
    split at hw
    · exact tJ17_indexOf_0 EN G ⟨rfl, rfl⟩ rfl hxt _ _ _ hw
    · exact hw.elim
/-! java/lang/StringUTF16.indexOfCharUnsafe([BIII)I (J7_indexOfCharUnsafe) -/
def bJ7_indexOfCharUnsafe_28 (E : Nat → Value) (Q : Rs → HS → Prop) (X3 : Ct) : Ct :=
  o_push (.int (-1)) <|
  o_ireturn .int Q
def bJ7_indexOfCharUnsafe_22 (E : Nat → Value) (Q : Rs → HS → Prop) (X3 : Ct) : Ct :=
  o_iinc 4 1 <|
  X3
def bJ7_indexOfCharUnsafe_3 (E : Nat → Value) (Q : Rs → HS → Prop) (X3 : Ct) : Ct :=
  o_iload 4 <|
  o_iload 3 <|
  o_icmpge (bJ7_indexOfCharUnsafe_28 E Q X3) <|
  o_aload 0 <|
  o_iload 4 <|
  o_call 2 (wJ7_getChar E) (x_out Q) <|
  o_iload 1 <|
  o_icmpne (bJ7_indexOfCharUnsafe_22 E Q X3) <|
  o_iload 4 <|
  o_ireturn .int Q
def bJ7_indexOfCharUnsafe_0 (E : Nat → Value) (Q : Rs → HS → Prop) (X3 : Ct) : Ct :=
  o_iload 2 <|
  o_istore 4 <|
  X3
def wJ7_indexOfCharUnsafe (E : Nat → Value) : Wp := fun av h Q => match av with
  | [a0, a1, a2, a3] => ∀ X3 : Ct, (∀ ls st h, bJ7_indexOfCharUnsafe_3 E Q X3 ls st h → X3 ls st h) → bJ7_indexOfCharUnsafe_0 E Q X3 [a0, a1, a2, a3, jk] [] h
  | _ => False
set_option maxHeartbeats 4000000 in
theorem tJ7_indexOfCharUnsafe_28 {x : CX} {E : Nat → Value} {Q : Rs → HS → Prop} {X3 : Ct} (EN : EX x E) (G : Gd x cJ7_indexOfCharUnsafe "java/lang/StringUTF16" yJ7_indexOfCharUnsafe 5 (Option.some Jvm.ClassFile.FieldType.int) Q) (hF : x.1.2.2.2.frames = 4 ∧ x.1.2.2.2.locals = 105) (hC : x.2.2.2.2.2 = (fun _ => false)) (hxt : (∀ z ∈ x.2.2.1.2.1.exceptionTable.toList, False)) (h3 : Snd x 3 X3) : Snd x 28 (bJ7_indexOfCharUnsafe_28 E Q X3) := by
  unfold bJ7_indexOfCharUnsafe_28
  refine s_iconst (by decide) G.b dJ7_indexOfCharUnsafe_28 ?_
  exact s_ireturn G dJ7_indexOfCharUnsafe_29
set_option maxHeartbeats 4000000 in
theorem tJ7_indexOfCharUnsafe_22 {x : CX} {E : Nat → Value} {Q : Rs → HS → Prop} {X3 : Ct} (EN : EX x E) (G : Gd x cJ7_indexOfCharUnsafe "java/lang/StringUTF16" yJ7_indexOfCharUnsafe 5 (Option.some Jvm.ClassFile.FieldType.int) Q) (hF : x.1.2.2.2.frames = 4 ∧ x.1.2.2.2.locals = 105) (hC : x.2.2.2.2.2 = (fun _ => false)) (hxt : (∀ z ∈ x.2.2.1.2.1.exceptionTable.toList, False)) (h3 : Snd x 3 X3) : Snd x 22 (bJ7_indexOfCharUnsafe_22 E Q X3) := by
  unfold bJ7_indexOfCharUnsafe_22
  refine s_iinc (by decide) G.b (by rw [G.nl]; decide) (fun _ _ => by rw [hC]) dJ7_indexOfCharUnsafe_22 ?_
  exact s_goto (tgt := 3) G.b dJ7_indexOfCharUnsafe_25 (by decide) h3
set_option maxHeartbeats 4000000 in
theorem tJ7_indexOfCharUnsafe_3 {x : CX} {E : Nat → Value} {Q : Rs → HS → Prop} {X3 : Ct} (EN : EX x E) (G : Gd x cJ7_indexOfCharUnsafe "java/lang/StringUTF16" yJ7_indexOfCharUnsafe 5 (Option.some Jvm.ClassFile.FieldType.int) Q) (hF : x.1.2.2.2.frames = 4 ∧ x.1.2.2.2.locals = 105) (hC : x.2.2.2.2.2 = (fun _ => false)) (hxt : (∀ z ∈ x.2.2.1.2.1.exceptionTable.toList, False)) (h3 : Snd x 3 X3) : Snd x 3 (bJ7_indexOfCharUnsafe_3 E Q X3) := by
  unfold bJ7_indexOfCharUnsafe_3
  refine s_iload G.b dJ7_indexOfCharUnsafe_3 ?_
  refine s_iload_n rfl G.b dJ7_indexOfCharUnsafe_5 ?_
  refine s_icmpge (tgt := 28) G.b dJ7_indexOfCharUnsafe_6 (by decide) (tJ7_indexOfCharUnsafe_28 EN G hF hC hxt h3) ?_
  refine s_aload_n rfl G.b dJ7_indexOfCharUnsafe_9 ?_
  refine s_iload G.b dJ7_indexOfCharUnsafe_10 ?_
  refine s_callS G (mJ7_getChar EN) q1083 q958 q87 q959 nmk_92 (rm_of hF (Nat.le_of_ble_eq_true rfl) (Nat.le_of_ble_eq_true rfl)) dJ7_indexOfCharUnsafe_12 ?_ (sx_out G (fun z hz => (hxt z hz).elim))
  refine s_iload_n rfl G.b dJ7_indexOfCharUnsafe_15 ?_
  refine s_icmpne (tgt := 22) G.b dJ7_indexOfCharUnsafe_16 (by decide) (tJ7_indexOfCharUnsafe_22 EN G hF hC hxt h3) ?_
  refine s_iload G.b dJ7_indexOfCharUnsafe_19 ?_
  exact s_ireturn G dJ7_indexOfCharUnsafe_21
set_option maxHeartbeats 4000000 in
theorem tJ7_indexOfCharUnsafe_0 {x : CX} {E : Nat → Value} {Q : Rs → HS → Prop} {X3 : Ct} (EN : EX x E) (G : Gd x cJ7_indexOfCharUnsafe "java/lang/StringUTF16" yJ7_indexOfCharUnsafe 5 (Option.some Jvm.ClassFile.FieldType.int) Q) (hF : x.1.2.2.2.frames = 4 ∧ x.1.2.2.2.locals = 105) (hC : x.2.2.2.2.2 = (fun _ => false)) (hxt : (∀ z ∈ x.2.2.1.2.1.exceptionTable.toList, False)) (h3 : Snd x 3 X3) : Snd x 0 (bJ7_indexOfCharUnsafe_0 E Q X3) := by
  unfold bJ7_indexOfCharUnsafe_0
  refine s_iload_n rfl G.b dJ7_indexOfCharUnsafe_0 ?_
  refine s_istore G.b (by rw [G.nl]; decide) (fun _ _ => by rw [hC]) dJ7_indexOfCharUnsafe_1 ?_
  exact h3
set_option maxHeartbeats 4000000 in
theorem mJ7_indexOfCharUnsafe {l : Launch} {D : DE} {s0 : State} {E : Nat → Value} (EN : EV l D s0 E) : rMet l D s0 yJ7_indexOfCharUnsafe (ws_ yJ7_indexOfCharUnsafe cJ7_indexOfCharUnsafe 5 (Option.some Jvm.ClassFile.FieldType.int)) 4 105 (wJ7_indexOfCharUnsafe E) := by
  refine body_met (fun _ => false) EN.kn (fun w h => h) (by decide +kernel) rfl (fun av h Q hw => ?_) ?_
  · unfold wJ7_indexOfCharUnsafe at hw
    split at hw
    · exact Nat.le_of_ble_eq_true rfl
    · exact hw.elim
  · intro p e s m below meth c av h Q hxt G hw
    unfold wJ7_indexOfCharUnsafe at hw
    split at hw
    · exact tJ7_indexOfCharUnsafe_0 EN G ⟨rfl, rfl⟩ rfl hxt (fun _ _ _ h => h) _ _ _ (hw (AW _ 3) (tJ7_indexOfCharUnsafe_3 EN G ⟨rfl, rfl⟩ rfl hxt (fun _ _ _ h => h)))
    · exact hw.elim
/-! java/lang/StringUTF16.indexOfChar([BIII)I (J7_indexOfChar) -/
theorem nmk_202 : nm_ok yJ7_indexOfCharUnsafe 4 := ⟨by decide +kernel, by decide +kernel, by decide +kernel⟩
def bJ7_indexOfChar_0 (E : Nat → Value) (Q : Rs → HS → Prop) : Ct :=
  o_iload 2 <|
  o_iload 3 <|
  o_aload 0 <|
  o_call 3 (wJ7_checkBoundsBeginEnd E) (x_out Q) <|
  o_aload 0 <|
  o_iload 1 <|
  o_iload 2 <|
  o_iload 3 <|
  o_call 4 (wJ7_indexOfCharUnsafe E) (x_out Q) <|
  o_ireturn .int Q
def wJ7_indexOfChar (E : Nat → Value) : Wp := fun av h Q => match av with
  | [a0, a1, a2, a3] => bJ7_indexOfChar_0 E Q [a0, a1, a2, a3] [] h
  | _ => False
set_option maxHeartbeats 4000000 in
theorem tJ7_indexOfChar_0 {x : CX} {E : Nat → Value} {Q : Rs → HS → Prop} (EN : EX x E) (G : Gd x cJ7_indexOfChar "java/lang/StringUTF16" yJ7_indexOfChar 4 (Option.some Jvm.ClassFile.FieldType.int) Q) (hF : x.1.2.2.2.frames = 5 ∧ x.1.2.2.2.locals = 131) (hC : x.2.2.2.2.2 = (fun _ => false)) (hxt : (∀ z ∈ x.2.2.1.2.1.exceptionTable.toList, False)) : Snd x 0 (bJ7_indexOfChar_0 E Q) := by
  unfold bJ7_indexOfChar_0
  refine s_iload_n rfl G.b dJ7_indexOfChar_0 ?_
  refine s_iload_n rfl G.b dJ7_indexOfChar_1 ?_
  refine s_aload_n rfl G.b dJ7_indexOfChar_2 ?_
  refine s_callS G (mJ7_checkBoundsBeginEnd EN) q1532 q1533 q87 q1534 nmk_166 (rm_of hF (Nat.le_of_ble_eq_true rfl) (Nat.le_of_ble_eq_true rfl)) dJ7_indexOfChar_3 ?_ (sx_out G (fun z hz => (hxt z hz).elim))
  refine s_aload_n rfl G.b dJ7_indexOfChar_6 ?_
  refine s_iload_n rfl G.b dJ7_indexOfChar_7 ?_
  refine s_iload_n rfl G.b dJ7_indexOfChar_8 ?_
  refine s_iload_n rfl G.b dJ7_indexOfChar_9 ?_
  refine s_callS G (mJ7_indexOfCharUnsafe EN) q1541 q1542 q87 q1543 nmk_202 (rm_of hF (Nat.le_of_ble_eq_true rfl) (Nat.le_of_ble_eq_true rfl)) dJ7_indexOfChar_10 ?_ (sx_out G (fun z hz => (hxt z hz).elim))
  exact s_ireturn G dJ7_indexOfChar_13
set_option maxHeartbeats 4000000 in
theorem mJ7_indexOfChar {l : Launch} {D : DE} {s0 : State} {E : Nat → Value} (EN : EV l D s0 E) : rMet l D s0 yJ7_indexOfChar (ws_ yJ7_indexOfChar cJ7_indexOfChar 4 (Option.some Jvm.ClassFile.FieldType.int)) 5 131 (wJ7_indexOfChar E) := by
  refine body_met (fun _ => false) EN.kn (fun w h => h) (by decide +kernel) rfl (fun av h Q hw => ?_) ?_
  · unfold wJ7_indexOfChar at hw
    split at hw
    · exact Nat.le_of_ble_eq_true rfl
    · exact hw.elim
  · intro p e s m below meth c av h Q hxt G hw
    unfold wJ7_indexOfChar at hw
    split at hw
    · exact tJ7_indexOfChar_0 EN G ⟨rfl, rfl⟩ rfl hxt _ _ _ hw
    · exact hw.elim
/-! java/lang/Character.highSurrogate(I)C (J20_highSurrogate) -/
def bJ20_highSurrogate_0 (E : Nat → Value) (Q : Rs → HS → Prop) : Ct :=
  o_iload 0 <|
  o_push (.int 10) <|
  o_iushr <|
  o_push (.int 55232) <|
  o_iadd <|
  o_i2c <|
  o_ireturn .char Q
def wJ20_highSurrogate (E : Nat → Value) : Wp := fun av h Q => match av with
  | [a0] => bJ20_highSurrogate_0 E Q [a0] [] h
  | _ => False
set_option maxHeartbeats 4000000 in
theorem tJ20_highSurrogate_0 {x : CX} {E : Nat → Value} {Q : Rs → HS → Prop} (EN : EX x E) (G : Gd x cJ20_highSurrogate "java/lang/Character" yJ20_highSurrogate 1 (Option.some Jvm.ClassFile.FieldType.char) Q) (hF : x.1.2.2.2.frames = 2 ∧ x.1.2.2.2.locals = 64) (hC : x.2.2.2.2.2 = (fun _ => false)) (hxt : (∀ z ∈ x.2.2.1.2.1.exceptionTable.toList, False)) : Snd x 0 (bJ20_highSurrogate_0 E Q) := by
  unfold bJ20_highSurrogate_0
  refine s_iload_n rfl G.b dJ20_highSurrogate_0 ?_
  refine s_bipush (by decide) G.b dJ20_highSurrogate_1 ?_
  refine s_iushr G.b dJ20_highSurrogate_3 ?_
  refine s_ldcI G.b G.ow G.hts q1553 dJ20_highSurrogate_4 ?_
  refine s_iadd G.b dJ20_highSurrogate_6 ?_
  refine s_i2c G.b dJ20_highSurrogate_7 ?_
  exact s_ireturn G dJ20_highSurrogate_8
set_option maxHeartbeats 4000000 in
theorem mJ20_highSurrogate {l : Launch} {D : DE} {s0 : State} {E : Nat → Value} (EN : EV l D s0 E) : rMet l D s0 yJ20_highSurrogate (ws_ yJ20_highSurrogate cJ20_highSurrogate 1 (Option.some Jvm.ClassFile.FieldType.char)) 2 64 (wJ20_highSurrogate E) := by
  refine body_met (fun _ => false) EN.kn (fun w h => h) (by decide +kernel) rfl (fun av h Q hw => ?_) ?_
  · unfold wJ20_highSurrogate at hw
    split at hw
    · exact Nat.le_of_ble_eq_true rfl
    · exact hw.elim
  · intro p e s m below meth c av h Q hxt G hw
    unfold wJ20_highSurrogate at hw
    split at hw
    · exact tJ20_highSurrogate_0 EN G ⟨rfl, rfl⟩ rfl hxt _ _ _ hw
    · exact hw.elim
/-! java/lang/Character.isValidCodePoint(I)Z (J20_isValidCodePoint) -/
def bJ20_isValidCodePoint_16 (E : Nat → Value) (Q : Rs → HS → Prop) : Ct :=
  o_ireturn .boolean Q
def bJ20_isValidCodePoint_15 (E : Nat → Value) (Q : Rs → HS → Prop) : Ct :=
  o_push (.int 0) <|
  (bJ20_isValidCodePoint_16 E Q)
def bJ20_isValidCodePoint_0 (E : Nat → Value) (Q : Rs → HS → Prop) : Ct :=
  o_iload 0 <|
  o_push (.int 16) <|
  o_iushr <|
  o_istore 1 <|
  o_iload 1 <|
  o_push (.int 17) <|
  o_icmpge (bJ20_isValidCodePoint_15 E Q) <|
  o_push (.int 1) <|
  (bJ20_isValidCodePoint_16 E Q)
def wJ20_isValidCodePoint (E : Nat → Value) : Wp := fun av h Q => match av with
  | [a0] => bJ20_isValidCodePoint_0 E Q [a0, jk] [] h
  | _ => False
set_option maxHeartbeats 4000000 in
theorem tJ20_isValidCodePoint_16 {x : CX} {E : Nat → Value} {Q : Rs → HS → Prop} (EN : EX x E) (G : Gd x cJ20_isValidCodePoint "java/lang/Character" yJ20_isValidCodePoint 2 (Option.some Jvm.ClassFile.FieldType.boolean) Q) (hF : x.1.2.2.2.frames = 2 ∧ x.1.2.2.2.locals = 64) (hC : x.2.2.2.2.2 = (fun _ => false)) (hxt : (∀ z ∈ x.2.2.1.2.1.exceptionTable.toList, False)) : Snd x 16 (bJ20_isValidCodePoint_16 E Q) := by
  unfold bJ20_isValidCodePoint_16
  exact s_ireturn G dJ20_isValidCodePoint_16
set_option maxHeartbeats 4000000 in
theorem tJ20_isValidCodePoint_15 {x : CX} {E : Nat → Value} {Q : Rs → HS → Prop} (EN : EX x E) (G : Gd x cJ20_isValidCodePoint "java/lang/Character" yJ20_isValidCodePoint 2 (Option.some Jvm.ClassFile.FieldType.boolean) Q) (hF : x.1.2.2.2.frames = 2 ∧ x.1.2.2.2.locals = 64) (hC : x.2.2.2.2.2 = (fun _ => false)) (hxt : (∀ z ∈ x.2.2.1.2.1.exceptionTable.toList, False)) : Snd x 15 (bJ20_isValidCodePoint_15 E Q) := by
  unfold bJ20_isValidCodePoint_15
  refine s_iconst (by decide) G.b dJ20_isValidCodePoint_15 ?_
  exact (tJ20_isValidCodePoint_16 EN G hF hC hxt)
set_option maxHeartbeats 4000000 in
theorem tJ20_isValidCodePoint_0 {x : CX} {E : Nat → Value} {Q : Rs → HS → Prop} (EN : EX x E) (G : Gd x cJ20_isValidCodePoint "java/lang/Character" yJ20_isValidCodePoint 2 (Option.some Jvm.ClassFile.FieldType.boolean) Q) (hF : x.1.2.2.2.frames = 2 ∧ x.1.2.2.2.locals = 64) (hC : x.2.2.2.2.2 = (fun _ => false)) (hxt : (∀ z ∈ x.2.2.1.2.1.exceptionTable.toList, False)) : Snd x 0 (bJ20_isValidCodePoint_0 E Q) := by
  unfold bJ20_isValidCodePoint_0
  refine s_iload_n rfl G.b dJ20_isValidCodePoint_0 ?_
  refine s_bipush (by decide) G.b dJ20_isValidCodePoint_1 ?_
  refine s_iushr G.b dJ20_isValidCodePoint_3 ?_
  refine s_istore_n rfl G.b (by rw [G.nl]; decide) (fun _ _ => by rw [hC]) dJ20_isValidCodePoint_4 ?_
  refine s_iload_n rfl G.b dJ20_isValidCodePoint_5 ?_
  refine s_bipush (by decide) G.b dJ20_isValidCodePoint_6 ?_
  refine s_icmpge (tgt := 15) G.b dJ20_isValidCodePoint_8 (by decide) (tJ20_isValidCodePoint_15 EN G hF hC hxt) ?_
  refine s_iconst (by decide) G.b dJ20_isValidCodePoint_11 ?_
  exact s_goto (tgt := 16) G.b dJ20_isValidCodePoint_12 (by decide) (tJ20_isValidCodePoint_16 EN G hF hC hxt)
set_option maxHeartbeats 4000000 in
theorem mJ20_isValidCodePoint {l : Launch} {D : DE} {s0 : State} {E : Nat → Value} (EN : EV l D s0 E) : rMet l D s0 yJ20_isValidCodePoint (ws_ yJ20_isValidCodePoint cJ20_isValidCodePoint 2 (Option.some Jvm.ClassFile.FieldType.boolean)) 2 64 (wJ20_isValidCodePoint E) := by
  refine body_met (fun _ => false) EN.kn (fun w h => h) (by decide +kernel) rfl (fun av h Q hw => ?_) ?_
  · unfold wJ20_isValidCodePoint at hw
    split at hw
    · exact Nat.le_of_ble_eq_true rfl
    · exact hw.elim
  · intro p e s m below meth c av h Q hxt G hw
    unfold wJ20_isValidCodePoint at hw
    split at hw
    · exact tJ20_isValidCodePoint_0 EN G ⟨rfl, rfl⟩ rfl hxt _ _ _ hw
    · exact hw.elim
/-! java/lang/Character.lowSurrogate(I)C (J20_lowSurrogate) -/
def bJ20_lowSurrogate_0 (E : Nat → Value) (Q : Rs → HS → Prop) : Ct :=
  o_iload 0 <|
  o_push (.int 1023) <|
  o_iand <|
  o_push (.int 56320) <|
  o_iadd <|
  o_i2c <|
  o_ireturn .char Q
def wJ20_lowSurrogate (E : Nat → Value) : Wp := fun av h Q => match av with
  | [a0] => bJ20_lowSurrogate_0 E Q [a0] [] h
  | _ => False
set_option maxHeartbeats 4000000 in
theorem tJ20_lowSurrogate_0 {x : CX} {E : Nat → Value} {Q : Rs → HS → Prop} (EN : EX x E) (G : Gd x cJ20_lowSurrogate "java/lang/Character" yJ20_lowSurrogate 1 (Option.some Jvm.ClassFile.FieldType.char) Q) (hF : x.1.2.2.2.frames = 2 ∧ x.1.2.2.2.locals = 64) (hC : x.2.2.2.2.2 = (fun _ => false)) (hxt : (∀ z ∈ x.2.2.1.2.1.exceptionTable.toList, False)) : Snd x 0 (bJ20_lowSurrogate_0 E Q) := by
  unfold bJ20_lowSurrogate_0
  refine s_iload_n rfl G.b dJ20_lowSurrogate_0 ?_
  refine s_sipush (by decide) G.b dJ20_lowSurrogate_1 ?_
  refine s_iand G.b dJ20_lowSurrogate_4 ?_
  refine s_ldcI G.b G.ow G.hts q1557 dJ20_lowSurrogate_5 ?_
  refine s_iadd G.b dJ20_lowSurrogate_7 ?_
  refine s_i2c G.b dJ20_lowSurrogate_8 ?_
  exact s_ireturn G dJ20_lowSurrogate_9
set_option maxHeartbeats 4000000 in
theorem mJ20_lowSurrogate {l : Launch} {D : DE} {s0 : State} {E : Nat → Value} (EN : EV l D s0 E) : rMet l D s0 yJ20_lowSurrogate (ws_ yJ20_lowSurrogate cJ20_lowSurrogate 1 (Option.some Jvm.ClassFile.FieldType.char)) 2 64 (wJ20_lowSurrogate E) := by
  refine body_met (fun _ => false) EN.kn (fun w h => h) (by decide +kernel) rfl (fun av h Q hw => ?_) ?_
  · unfold wJ20_lowSurrogate at hw
    split at hw
    · exact Nat.le_of_ble_eq_true rfl
    · exact hw.elim
  · intro p e s m below meth c av h Q hxt G hw
    unfold wJ20_lowSurrogate at hw
    split at hw
    · exact tJ20_lowSurrogate_0 EN G ⟨rfl, rfl⟩ rfl hxt _ _ _ hw
    · exact hw.elim
/-! java/lang/StringUTF16.indexOfSupplementary([BIII)I (J7_indexOfSupplementary) -/
theorem nmk_203 : nm_ok yJ20_isValidCodePoint 1 := ⟨by decide +kernel, by decide +kernel, by decide +kernel⟩
theorem nmk_204 : nm_ok yJ20_highSurrogate 1 := ⟨by decide +kernel, by decide +kernel, by decide +kernel⟩
theorem nmk_205 : nm_ok yJ20_lowSurrogate 1 := ⟨by decide +kernel, by decide +kernel, by decide +kernel⟩
def bJ7_indexOfSupplementary_69 (E : Nat → Value) (Q : Rs → HS → Prop) (X28 : Ct) : Ct :=
  o_push (.int (-1)) <|
  o_ireturn .int Q
def bJ7_indexOfSupplementary_63 (E : Nat → Value) (Q : Rs → HS → Prop) (X28 : Ct) : Ct :=
  o_iinc 6 1 <|
  X28
def bJ7_indexOfSupplementary_28 (E : Nat → Value) (Q : Rs → HS → Prop) (X28 : Ct) : Ct :=
  o_iload 6 <|
  o_iload 3 <|
  o_push (.int 1) <|
  o_isub <|
  o_icmpge (bJ7_indexOfSupplementary_69 E Q X28) <|
  o_aload 0 <|
  o_iload 6 <|
  o_call 2 (wJ7_getChar E) (x_out Q) <|
  o_iload 4 <|
  o_icmpne (bJ7_indexOfSupplementary_63 E Q X28) <|
  o_aload 0 <|
  o_iload 6 <|
  o_push (.int 1) <|
  o_iadd <|
  o_call 2 (wJ7_getChar E) (x_out Q) <|
  o_iload 5 <|
  o_icmpne (bJ7_indexOfSupplementary_63 E Q X28) <|
  o_iload 6 <|
  o_ireturn .int Q
def bJ7_indexOfSupplementary_0 (E : Nat → Value) (Q : Rs → HS → Prop) (X28 : Ct) : Ct :=
  o_iload 1 <|
  o_call 1 (wJ20_isValidCodePoint E) (x_out Q) <|
  o_ifeq (bJ7_indexOfSupplementary_69 E Q X28) <|
  o_iload 1 <|
  o_call 1 (wJ20_highSurrogate E) (x_out Q) <|
  o_istore 4 <|
  o_iload 1 <|
  o_call 1 (wJ20_lowSurrogate E) (x_out Q) <|
  o_istore 5 <|
  o_iload 2 <|
  o_iload 3 <|
  o_aload 0 <|
  o_call 3 (wJ7_checkBoundsBeginEnd E) (x_out Q) <|
  o_iload 2 <|
  o_istore 6 <|
  X28
def wJ7_indexOfSupplementary (E : Nat → Value) : Wp := fun av h Q => match av with
  | [a0, a1, a2, a3] => ∀ X28 : Ct, (∀ ls st h, bJ7_indexOfSupplementary_28 E Q X28 ls st h → X28 ls st h) → bJ7_indexOfSupplementary_0 E Q X28 [a0, a1, a2, a3, jk, jk, jk] [] h
  | _ => False
set_option maxHeartbeats 4000000 in
theorem tJ7_indexOfSupplementary_69 {x : CX} {E : Nat → Value} {Q : Rs → HS → Prop} {X28 : Ct} (EN : EX x E) (G : Gd x cJ7_indexOfSupplementary "java/lang/StringUTF16" yJ7_indexOfSupplementary 7 (Option.some Jvm.ClassFile.FieldType.int) Q) (hF : x.1.2.2.2.frames = 5 ∧ x.1.2.2.2.locals = 131) (hC : x.2.2.2.2.2 = (fun _ => false)) (hxt : (∀ z ∈ x.2.2.1.2.1.exceptionTable.toList, False)) (h28 : Snd x 28 X28) : Snd x 69 (bJ7_indexOfSupplementary_69 E Q X28) := by
  unfold bJ7_indexOfSupplementary_69
  refine s_iconst (by decide) G.b dJ7_indexOfSupplementary_69 ?_
  exact s_ireturn G dJ7_indexOfSupplementary_70
set_option maxHeartbeats 4000000 in
theorem tJ7_indexOfSupplementary_63 {x : CX} {E : Nat → Value} {Q : Rs → HS → Prop} {X28 : Ct} (EN : EX x E) (G : Gd x cJ7_indexOfSupplementary "java/lang/StringUTF16" yJ7_indexOfSupplementary 7 (Option.some Jvm.ClassFile.FieldType.int) Q) (hF : x.1.2.2.2.frames = 5 ∧ x.1.2.2.2.locals = 131) (hC : x.2.2.2.2.2 = (fun _ => false)) (hxt : (∀ z ∈ x.2.2.1.2.1.exceptionTable.toList, False)) (h28 : Snd x 28 X28) : Snd x 63 (bJ7_indexOfSupplementary_63 E Q X28) := by
  unfold bJ7_indexOfSupplementary_63
  refine s_iinc (by decide) G.b (by rw [G.nl]; decide) (fun _ _ => by rw [hC]) dJ7_indexOfSupplementary_63 ?_
  exact s_goto (tgt := 28) G.b dJ7_indexOfSupplementary_66 (by decide) h28
set_option maxHeartbeats 4000000 in
theorem tJ7_indexOfSupplementary_28 {x : CX} {E : Nat → Value} {Q : Rs → HS → Prop} {X28 : Ct} (EN : EX x E) (G : Gd x cJ7_indexOfSupplementary "java/lang/StringUTF16" yJ7_indexOfSupplementary 7 (Option.some Jvm.ClassFile.FieldType.int) Q) (hF : x.1.2.2.2.frames = 5 ∧ x.1.2.2.2.locals = 131) (hC : x.2.2.2.2.2 = (fun _ => false)) (hxt : (∀ z ∈ x.2.2.1.2.1.exceptionTable.toList, False)) (h28 : Snd x 28 X28) : Snd x 28 (bJ7_indexOfSupplementary_28 E Q X28) := by
  unfold bJ7_indexOfSupplementary_28
  refine s_iload G.b dJ7_indexOfSupplementary_28 ?_
  refine s_iload_n rfl G.b dJ7_indexOfSupplementary_30 ?_
  refine s_iconst (by decide) G.b dJ7_indexOfSupplementary_31 ?_
  refine s_isub G.b dJ7_indexOfSupplementary_32 ?_
  refine s_icmpge (tgt := 69) G.b dJ7_indexOfSupplementary_33 (by decide) (tJ7_indexOfSupplementary_69 EN G hF hC hxt h28) ?_
  refine s_aload_n rfl G.b dJ7_indexOfSupplementary_36 ?_
  refine s_iload G.b dJ7_indexOfSupplementary_37 ?_
  refine s_callS G (mJ7_getChar EN) q1083 q958 q87 q959 nmk_92 (rm_of hF (Nat.le_of_ble_eq_true rfl) (Nat.le_of_ble_eq_true rfl)) dJ7_indexOfSupplementary_39 ?_ (sx_out G (fun z hz => (hxt z hz).elim))
  refine s_iload G.b dJ7_indexOfSupplementary_42 ?_
  refine s_icmpne (tgt := 63) G.b dJ7_indexOfSupplementary_44 (by decide) (tJ7_indexOfSupplementary_63 EN G hF hC hxt h28) ?_
  refine s_aload_n rfl G.b dJ7_indexOfSupplementary_47 ?_
  refine s_iload G.b dJ7_indexOfSupplementary_48 ?_
  refine s_iconst (by decide) G.b dJ7_indexOfSupplementary_50 ?_
  refine s_iadd G.b dJ7_indexOfSupplementary_51 ?_
  refine s_callS G (mJ7_getChar EN) q1083 q958 q87 q959 nmk_92 (rm_of hF (Nat.le_of_ble_eq_true rfl) (Nat.le_of_ble_eq_true rfl)) dJ7_indexOfSupplementary_52 ?_ (sx_out G (fun z hz => (hxt z hz).elim))
  refine s_iload G.b dJ7_indexOfSupplementary_55 ?_
  refine s_icmpne (tgt := 63) G.b dJ7_indexOfSupplementary_57 (by decide) (tJ7_indexOfSupplementary_63 EN G hF hC hxt h28) ?_
  refine s_iload G.b dJ7_indexOfSupplementary_60 ?_
  exact s_ireturn G dJ7_indexOfSupplementary_62
set_option maxHeartbeats 4000000 in
theorem tJ7_indexOfSupplementary_0 {x : CX} {E : Nat → Value} {Q : Rs → HS → Prop} {X28 : Ct} (EN : EX x E) (G : Gd x cJ7_indexOfSupplementary "java/lang/StringUTF16" yJ7_indexOfSupplementary 7 (Option.some Jvm.ClassFile.FieldType.int) Q) (hF : x.1.2.2.2.frames = 5 ∧ x.1.2.2.2.locals = 131) (hC : x.2.2.2.2.2 = (fun _ => false)) (hxt : (∀ z ∈ x.2.2.1.2.1.exceptionTable.toList, False)) (h28 : Snd x 28 X28) : Snd x 0 (bJ7_indexOfSupplementary_0 E Q X28) := by
  unfold bJ7_indexOfSupplementary_0
  refine s_iload_n rfl G.b dJ7_indexOfSupplementary_0 ?_
  refine s_callS G (mJ20_isValidCodePoint EN) q1547 q1548 q110 q1549 nmk_203 (rm_of hF (Nat.le_of_ble_eq_true rfl) (Nat.le_of_ble_eq_true rfl)) dJ7_indexOfSupplementary_1 ?_ (sx_out G (fun z hz => (hxt z hz).elim))
  refine s_ifeq (tgt := 69) G.b dJ7_indexOfSupplementary_4 (by decide) (tJ7_indexOfSupplementary_69 EN G hF hC hxt h28) ?_
  refine s_iload_n rfl G.b dJ7_indexOfSupplementary_7 ?_
  refine s_callS G (mJ20_highSurrogate EN) q1550 q1551 q110 q1552 nmk_204 (rm_of hF (Nat.le_of_ble_eq_true rfl) (Nat.le_of_ble_eq_true rfl)) dJ7_indexOfSupplementary_8 ?_ (sx_out G (fun z hz => (hxt z hz).elim))
  refine s_istore G.b (by rw [G.nl]; decide) (fun _ _ => by rw [hC]) dJ7_indexOfSupplementary_11 ?_
  refine s_iload_n rfl G.b dJ7_indexOfSupplementary_13 ?_
  refine s_callS G (mJ20_lowSurrogate EN) q1554 q1555 q110 q1556 nmk_205 (rm_of hF (Nat.le_of_ble_eq_true rfl) (Nat.le_of_ble_eq_true rfl)) dJ7_indexOfSupplementary_14 ?_ (sx_out G (fun z hz => (hxt z hz).elim))
  refine s_istore G.b (by rw [G.nl]; decide) (fun _ _ => by rw [hC]) dJ7_indexOfSupplementary_17 ?_
  refine s_iload_n rfl G.b dJ7_indexOfSupplementary_19 ?_
  refine s_iload_n rfl G.b dJ7_indexOfSupplementary_20 ?_
  refine s_aload_n rfl G.b dJ7_indexOfSupplementary_21 ?_
  refine s_callS G (mJ7_checkBoundsBeginEnd EN) q1532 q1533 q87 q1534 nmk_166 (rm_of hF (Nat.le_of_ble_eq_true rfl) (Nat.le_of_ble_eq_true rfl)) dJ7_indexOfSupplementary_22 ?_ (sx_out G (fun z hz => (hxt z hz).elim))
  refine s_iload_n rfl G.b dJ7_indexOfSupplementary_25 ?_
  refine s_istore G.b (by rw [G.nl]; decide) (fun _ _ => by rw [hC]) dJ7_indexOfSupplementary_26 ?_
  exact h28
set_option maxHeartbeats 4000000 in
theorem mJ7_indexOfSupplementary {l : Launch} {D : DE} {s0 : State} {E : Nat → Value} (EN : EV l D s0 E) : rMet l D s0 yJ7_indexOfSupplementary (ws_ yJ7_indexOfSupplementary cJ7_indexOfSupplementary 7 (Option.some Jvm.ClassFile.FieldType.int)) 5 131 (wJ7_indexOfSupplementary E) := by
  refine body_met (fun _ => false) EN.kn (fun w h => h) (by decide +kernel) rfl (fun av h Q hw => ?_) ?_
  · unfold wJ7_indexOfSupplementary at hw
    split at hw
    · exact Nat.le_of_ble_eq_true rfl
    · exact hw.elim
  · intro p e s m below meth c av h Q hxt G hw
    unfold wJ7_indexOfSupplementary at hw
    split at hw
    · exact tJ7_indexOfSupplementary_0 EN G ⟨rfl, rfl⟩ rfl hxt (fun _ _ _ h => h) _ _ _ (hw (AW _ 28) (tJ7_indexOfSupplementary_28 EN G ⟨rfl, rfl⟩ rfl hxt (fun _ _ _ h => h)))
    · exact hw.elim
/-! java/lang/StringUTF16.indexOf([BIII)I (J7_indexOf) -/
theorem nmk_206 : nm_ok yJ7_indexOfSupplementary 4 := ⟨by decide +kernel, by decide +kernel, by decide +kernel⟩
theorem nmk_207 : nm_ok yJ7_indexOfChar 4 := ⟨by decide +kernel, by decide +kernel, by decide +kernel⟩
def bJ7_indexOf_36 (E : Nat → Value) (Q : Rs → HS → Prop) : Ct :=
  o_aload 0 <|
  o_iload 1 <|
  o_iload 2 <|
  o_iload 3 <|
  o_call 4 (wJ7_indexOfSupplementary E) (x_out Q) <|
  o_ireturn .int Q
def bJ7_indexOf_22 (E : Nat → Value) (Q : Rs → HS → Prop) : Ct :=
  o_iload 1 <|
  o_push (.int 65536) <|
  o_icmpge (bJ7_indexOf_36 E Q) <|
  o_aload 0 <|
  o_iload 1 <|
  o_iload 2 <|
  o_iload 3 <|
  o_call 4 (wJ7_indexOfChar E) (x_out Q) <|
  o_ireturn .int Q
def bJ7_indexOf_0 (E : Nat → Value) (Q : Rs → HS → Prop) : Ct :=
  o_iload 2 <|
  o_push (.int 0) <|
  o_imax <|
  o_istore 2 <|
  o_iload 3 <|
  o_aload 0 <|
  o_alen <|
  o_push (.int 1) <|
  o_ishr <|
  o_imin <|
  o_istore 3 <|
  o_iload 2 <|
  o_iload 3 <|
  o_icmplt (bJ7_indexOf_22 E Q) <|
  o_push (.int (-1)) <|
  o_ireturn .int Q
def wJ7_indexOf (E : Nat → Value) : Wp := fun av h Q => match av with
  | [a0, a1, a2, a3] => bJ7_indexOf_0 E Q [a0, a1, a2, a3] [] h
  | _ => False
set_option maxHeartbeats 4000000 in
theorem tJ7_indexOf_36 {x : CX} {E : Nat → Value} {Q : Rs → HS → Prop} (EN : EX x E) (G : Gd x cJ7_indexOf "java/lang/StringUTF16" yJ7_indexOf 4 (Option.some Jvm.ClassFile.FieldType.int) Q) (hF : x.1.2.2.2.frames = 6 ∧ x.1.2.2.2.locals = 157) (hC : x.2.2.2.2.2 = (fun _ => false)) (hxt : (∀ z ∈ x.2.2.1.2.1.exceptionTable.toList, False)) : Snd x 36 (bJ7_indexOf_36 E Q) := by
  unfold bJ7_indexOf_36
  refine s_aload_n rfl G.b dJ7_indexOf_36 ?_
  refine s_iload_n rfl G.b dJ7_indexOf_37 ?_
  refine s_iload_n rfl G.b dJ7_indexOf_38 ?_
  refine s_iload_n rfl G.b dJ7_indexOf_39 ?_
  refine s_callS G (mJ7_indexOfSupplementary EN) q1544 q1545 q87 q1546 nmk_206 (rm_of hF (Nat.le_of_ble_eq_true rfl) (Nat.le_of_ble_eq_true rfl)) dJ7_indexOf_40 ?_ (sx_out G (fun z hz => (hxt z hz).elim))
  exact s_ireturn G dJ7_indexOf_43
set_option maxHeartbeats 4000000 in
theorem tJ7_indexOf_22 {x : CX} {E : Nat → Value} {Q : Rs → HS → Prop} (EN : EX x E) (G : Gd x cJ7_indexOf "java/lang/StringUTF16" yJ7_indexOf 4 (Option.some Jvm.ClassFile.FieldType.int) Q) (hF : x.1.2.2.2.frames = 6 ∧ x.1.2.2.2.locals = 157) (hC : x.2.2.2.2.2 = (fun _ => false)) (hxt : (∀ z ∈ x.2.2.1.2.1.exceptionTable.toList, False)) : Snd x 22 (bJ7_indexOf_22 E Q) := by
  unfold bJ7_indexOf_22
  refine s_iload_n rfl G.b dJ7_indexOf_22 ?_
  refine s_ldcI G.b G.ow G.hts q1528 dJ7_indexOf_23 ?_
  refine s_icmpge (tgt := 36) G.b dJ7_indexOf_25 (by decide) (tJ7_indexOf_36 EN G hF hC hxt) ?_
  refine s_aload_n rfl G.b dJ7_indexOf_28 ?_
  refine s_iload_n rfl G.b dJ7_indexOf_29 ?_
  refine s_iload_n rfl G.b dJ7_indexOf_30 ?_
  refine s_iload_n rfl G.b dJ7_indexOf_31 ?_
  refine s_callS G (mJ7_indexOfChar EN) q1529 q1530 q87 q1531 nmk_207 (rm_of hF (Nat.le_of_ble_eq_true rfl) (Nat.le_of_ble_eq_true rfl)) dJ7_indexOf_32 ?_ (sx_out G (fun z hz => (hxt z hz).elim))
  exact s_ireturn G dJ7_indexOf_35
set_option maxHeartbeats 4000000 in
theorem tJ7_indexOf_0 {x : CX} {E : Nat → Value} {Q : Rs → HS → Prop} (EN : EX x E) (G : Gd x cJ7_indexOf "java/lang/StringUTF16" yJ7_indexOf 4 (Option.some Jvm.ClassFile.FieldType.int) Q) (hF : x.1.2.2.2.frames = 6 ∧ x.1.2.2.2.locals = 157) (hC : x.2.2.2.2.2 = (fun _ => false)) (hxt : (∀ z ∈ x.2.2.1.2.1.exceptionTable.toList, False)) : Snd x 0 (bJ7_indexOf_0 E Q) := by
  unfold bJ7_indexOf_0
  refine s_iload_n rfl G.b dJ7_indexOf_0 ?_
  refine s_iconst (by decide) G.b dJ7_indexOf_1 ?_
  refine s_imax G hF ⟨Nat.le_of_ble_eq_true rfl, Nat.le_of_ble_eq_true rfl⟩ q1526 q423 q93 q424 dJ7_indexOf_2 ?_
  refine s_istore_n rfl G.b (by rw [G.nl]; decide) (fun _ _ => by rw [hC]) dJ7_indexOf_5 ?_
  refine s_iload_n rfl G.b dJ7_indexOf_6 ?_
  refine s_aload_n rfl G.b dJ7_indexOf_7 ?_
  refine s_alen G.b G.kn dJ7_indexOf_8 ?_
  refine s_iconst (by decide) G.b dJ7_indexOf_9 ?_
  refine s_ishr G.b dJ7_indexOf_10 ?_
  refine s_imin G hF ⟨Nat.le_of_ble_eq_true rfl, Nat.le_of_ble_eq_true rfl⟩ q1527 q464 q93 q465 dJ7_indexOf_11 ?_
  refine s_istore_n rfl G.b (by rw [G.nl]; decide) (fun _ _ => by rw [hC]) dJ7_indexOf_14 ?_
  refine s_iload_n rfl G.b dJ7_indexOf_15 ?_
  refine s_iload_n rfl G.b dJ7_indexOf_16 ?_
  refine s_icmplt (tgt := 22) G.b dJ7_indexOf_17 (by decide) (tJ7_indexOf_22 EN G hF hC hxt) ?_
  refine s_iconst (by decide) G.b dJ7_indexOf_20 ?_
  exact s_ireturn G dJ7_indexOf_21
set_option maxHeartbeats 4000000 in
theorem mJ7_indexOf {l : Launch} {D : DE} {s0 : State} {E : Nat → Value} (EN : EV l D s0 E) : rMet l D s0 yJ7_indexOf (ws_ yJ7_indexOf cJ7_indexOf 4 (Option.some Jvm.ClassFile.FieldType.int)) 6 157 (wJ7_indexOf E) := by
  refine body_met (fun _ => false) EN.kn (fun w h => h) (by decide +kernel) rfl (fun av h Q hw => ?_) ?_
  · unfold wJ7_indexOf at hw
    split at hw
    · exact Nat.le_of_ble_eq_true rfl
    · exact hw.elim
  · intro p e s m below meth c av h Q hxt G hw
    unfold wJ7_indexOf at hw
    split at hw
    · exact tJ7_indexOf_0 EN G ⟨rfl, rfl⟩ rfl hxt _ _ _ hw
    · exact hw.elim
/-! java/lang/String.indexOf(II)I (J6_indexOf_2) -/
theorem nmk_208 : nm_ok yJ7_indexOf 4 := ⟨by decide +kernel, by decide +kernel, by decide +kernel⟩
theorem nmk_209 : nm_ok yJ17_indexOf 4 := ⟨by decide +kernel, by decide +kernel, by decide +kernel⟩
def bJ6_indexOf_2_36 (E : Nat → Value) (Q : Rs → HS → Prop) : Ct :=
  o_ireturn .int Q
def bJ6_indexOf_2_23 (E : Nat → Value) (Q : Rs → HS → Prop) : Ct :=
  o_aload 0 <|
  o_getf [19] 0 <|
  o_iload 1 <|
  o_iload 2 <|
  o_aload 0 <|
  o_callV [19] 1 (wJ6_length E) (x_out Q) <|
  o_call 4 (wJ7_indexOf E) (x_out Q) <|
  (bJ6_indexOf_2_36 E Q)
def bJ6_indexOf_2_0 (E : Nat → Value) (Q : Rs → HS → Prop) : Ct :=
  o_aload 0 <|
  o_callV [19] 1 (wJ6_isLatin1 E) (x_out Q) <|
  o_ifeq (bJ6_indexOf_2_23 E Q) <|
  o_aload 0 <|
  o_getf [19] 0 <|
  o_iload 1 <|
  o_iload 2 <|
  o_aload 0 <|
  o_callV [19] 1 (wJ6_length E) (x_out Q) <|
  o_call 4 (wJ17_indexOf E) (x_out Q) <|
  (bJ6_indexOf_2_36 E Q)
def wJ6_indexOf_2 (E : Nat → Value) : Wp := fun av h Q => match av with
  | [a0, a1, a2] => bJ6_indexOf_2_0 E Q [a0, a1, a2] [] h
  | _ => False
set_option maxHeartbeats 4000000 in
theorem tJ6_indexOf_2_36 {x : CX} {E : Nat → Value} {Q : Rs → HS → Prop} (EN : EX x E) (G : Gd x cJ6_indexOf_2 "java/lang/String" yJ6_indexOf_2 3 (Option.some Jvm.ClassFile.FieldType.int) Q) (hF : x.1.2.2.2.frames = 7 ∧ x.1.2.2.2.locals = 180) (hC : x.2.2.2.2.2 = (fun _ => false)) (hxt : (∀ z ∈ x.2.2.1.2.1.exceptionTable.toList, False)) : Snd x 36 (bJ6_indexOf_2_36 E Q) := by
  unfold bJ6_indexOf_2_36
  exact s_ireturn G dJ6_indexOf_2_36
set_option maxHeartbeats 4000000 in
theorem tJ6_indexOf_2_23 {x : CX} {E : Nat → Value} {Q : Rs → HS → Prop} (EN : EX x E) (G : Gd x cJ6_indexOf_2 "java/lang/String" yJ6_indexOf_2 3 (Option.some Jvm.ClassFile.FieldType.int) Q) (hF : x.1.2.2.2.frames = 7 ∧ x.1.2.2.2.locals = 180) (hC : x.2.2.2.2.2 = (fun _ => false)) (hxt : (∀ z ∈ x.2.2.1.2.1.exceptionTable.toList, False)) : Snd x 23 (bJ6_indexOf_2_23 E Q) := by
  unfold bJ6_indexOf_2_23
  refine s_aload_n rfl G.b dJ6_indexOf_2_23 ?_
  refine s_getf G.b G.ow G.kn (G.hts _ q1225) (fun _ h => h) fa_54 dJ6_indexOf_2_24 ?_
  refine s_iload_n rfl G.b dJ6_indexOf_2_27 ?_
  refine s_iload_n rfl G.b dJ6_indexOf_2_28 ?_
  refine s_aload_n rfl G.b dJ6_indexOf_2_29 ?_
  refine s_callV G (mJ6_length EN) q1511 q982 (sel_cons (r := (RJ6, TJ6, 4)) (by decide) rfl q2351 (sel_nil)) q86 q984 nmk_149 (rm_of hF (Nat.le_of_ble_eq_true rfl) (Nat.le_of_ble_eq_true rfl)) dJ6_indexOf_2_30 ?_ (sx_out G (fun z hz => (hxt z hz).elim))
  refine s_callS G (mJ7_indexOf EN) q1523 q1524 q87 q1525 nmk_208 (rm_of hF (Nat.le_of_ble_eq_true rfl) (Nat.le_of_ble_eq_true rfl)) dJ6_indexOf_2_33 ?_ (sx_out G (fun z hz => (hxt z hz).elim))
  exact (tJ6_indexOf_2_36 EN G hF hC hxt)
set_option maxHeartbeats 4000000 in
theorem tJ6_indexOf_2_0 {x : CX} {E : Nat → Value} {Q : Rs → HS → Prop} (EN : EX x E) (G : Gd x cJ6_indexOf_2 "java/lang/String" yJ6_indexOf_2 3 (Option.some Jvm.ClassFile.FieldType.int) Q) (hF : x.1.2.2.2.frames = 7 ∧ x.1.2.2.2.locals = 180) (hC : x.2.2.2.2.2 = (fun _ => false)) (hxt : (∀ z ∈ x.2.2.1.2.1.exceptionTable.toList, False)) : Snd x 0 (bJ6_indexOf_2_0 E Q) := by
  unfold bJ6_indexOf_2_0
  refine s_aload_n rfl G.b dJ6_indexOf_2_0 ?_
  refine s_callV G (mJ6_isLatin1 EN) q1068 q1069 (sel_cons (r := (RJ6, TJ6, 4)) (by decide) rfl q1070 (sel_nil)) q86 q1071 nmk_110 (rm_of hF (Nat.le_of_ble_eq_true rfl) (Nat.le_of_ble_eq_true rfl)) dJ6_indexOf_2_1 ?_ (sx_out G (fun z hz => (hxt z hz).elim))
  refine s_ifeq (tgt := 23) G.b dJ6_indexOf_2_4 (by decide) (tJ6_indexOf_2_23 EN G hF hC hxt) ?_
  refine s_aload_n rfl G.b dJ6_indexOf_2_7 ?_
  refine s_getf G.b G.ow G.kn (G.hts _ q1225) (fun _ h => h) fa_54 dJ6_indexOf_2_8 ?_
  refine s_iload_n rfl G.b dJ6_indexOf_2_11 ?_
  refine s_iload_n rfl G.b dJ6_indexOf_2_12 ?_
  refine s_aload_n rfl G.b dJ6_indexOf_2_13 ?_
  refine s_callV G (mJ6_length EN) q1511 q982 (sel_cons (r := (RJ6, TJ6, 4)) (by decide) rfl q2351 (sel_nil)) q86 q984 nmk_149 (rm_of hF (Nat.le_of_ble_eq_true rfl) (Nat.le_of_ble_eq_true rfl)) dJ6_indexOf_2_14 ?_ (sx_out G (fun z hz => (hxt z hz).elim))
  refine s_callS G (mJ17_indexOf EN) q1512 q1513 q105 q1514 nmk_209 (rm_of hF (Nat.le_of_ble_eq_true rfl) (Nat.le_of_ble_eq_true rfl)) dJ6_indexOf_2_17 ?_ (sx_out G (fun z hz => (hxt z hz).elim))
  exact s_goto (tgt := 36) G.b dJ6_indexOf_2_20 (by decide) (tJ6_indexOf_2_36 EN G hF hC hxt)
set_option maxHeartbeats 4000000 in
theorem mJ6_indexOf_2 {l : Launch} {D : DE} {s0 : State} {E : Nat → Value} (EN : EV l D s0 E) : rMet l D s0 yJ6_indexOf_2 (ws_ yJ6_indexOf_2 cJ6_indexOf_2 3 (Option.some Jvm.ClassFile.FieldType.int)) 7 180 (wJ6_indexOf_2 E) := by
  refine body_met (fun _ => false) EN.kn (fun w h => h) (by decide +kernel) rfl (fun av h Q hw => ?_) ?_
  · unfold wJ6_indexOf_2 at hw
    split at hw
    · exact Nat.le_of_ble_eq_true rfl
    · exact hw.elim
  · intro p e s m below meth c av h Q hxt G hw
    unfold wJ6_indexOf_2 at hw
    split at hw
    · exact tJ6_indexOf_2_0 EN G ⟨rfl, rfl⟩ rfl hxt _ _ _ hw
    · exact hw.elim
/-! java/lang/String.indexOf(I)I (J6_indexOf) -/
theorem nmk_210 : nm_ok yJ6_indexOf_2 2 := ⟨by decide +kernel, by decide +kernel, by decide +kernel⟩
def bJ6_indexOf_0 (E : Nat → Value) (Q : Rs → HS → Prop) : Ct :=
  o_aload 0 <|
  o_iload 1 <|
  o_push (.int 0) <|
  o_callV [19] 3 (wJ6_indexOf_2 E) (x_out Q) <|
  o_ireturn .int Q
def wJ6_indexOf (E : Nat → Value) : Wp := fun av h Q => match av with
  | [a0, a1] => bJ6_indexOf_0 E Q [a0, a1] [] h
  | _ => False
set_option maxHeartbeats 4000000 in
theorem tJ6_indexOf_0 {x : CX} {E : Nat → Value} {Q : Rs → HS → Prop} (EN : EX x E) (G : Gd x cJ6_indexOf "java/lang/String" yJ6_indexOf 2 (Option.some Jvm.ClassFile.FieldType.int) Q) (hF : x.1.2.2.2.frames = 8 ∧ x.1.2.2.2.locals = 202) (hC : x.2.2.2.2.2 = (fun _ => false)) (hxt : (∀ z ∈ x.2.2.1.2.1.exceptionTable.toList, False)) : Snd x 0 (bJ6_indexOf_0 E Q) := by
  unfold bJ6_indexOf_0
  refine s_aload_n rfl G.b dJ6_indexOf_0 ?_
  refine s_iload_n rfl G.b dJ6_indexOf_1 ?_
  refine s_iconst (by decide) G.b dJ6_indexOf_2 ?_
  refine s_callV G (mJ6_indexOf_2 EN) q1507 q1508 (sel_cons (r := (RJ6, TJ6, 4)) (by decide) rfl q1509 (sel_nil)) q86 q1510 nmk_210 (rm_of hF (Nat.le_of_ble_eq_true rfl) (Nat.le_of_ble_eq_true rfl)) dJ6_indexOf_3 ?_ (sx_out G (fun z hz => (hxt z hz).elim))
  exact s_ireturn G dJ6_indexOf_6
set_option maxHeartbeats 4000000 in
theorem mJ6_indexOf {l : Launch} {D : DE} {s0 : State} {E : Nat → Value} (EN : EV l D s0 E) : rMet l D s0 yJ6_indexOf (ws_ yJ6_indexOf cJ6_indexOf 2 (Option.some Jvm.ClassFile.FieldType.int)) 8 202 (wJ6_indexOf E) := by
  refine body_met (fun _ => false) EN.kn (fun w h => h) (by decide +kernel) rfl (fun av h Q hw => ?_) ?_
  · unfold wJ6_indexOf at hw
    split at hw
    · exact Nat.le_of_ble_eq_true rfl
    · exact hw.elim
  · intro p e s m below meth c av h Q hxt G hw
    unfold wJ6_indexOf at hw
    split at hw
    · exact tJ6_indexOf_0 EN G ⟨rfl, rfl⟩ rfl hxt _ _ _ hw
    · exact hw.elim
/-! ChantRules$Reader.command()LChantRules$Command; (X12_command) -/
theorem nmk_211 : nm_ok yX12_arc 1 := ⟨by decide +kernel, by decide +kernel, by decide +kernel⟩
theorem nmk_212 : nm_ok yX14_init 1 := ⟨by decide +kernel, by decide +kernel, by decide +kernel⟩
theorem nmk_213 : nm_ok yJ6_indexOf 1 := ⟨by decide +kernel, by decide +kernel, by decide +kernel⟩
def bX12_command_201 (E : Nat → Value) (Q : Rs → HS → Prop) : Ct :=
  o_aload 1 <|
  o_areturn Q
def bX12_command_187 (E : Nat → Value) (Q : Rs → HS → Prop) : Ct :=
  o_aload 1 <|
  o_aload 0 <|
  o_push (.int 46) <|
  o_push (.int 2) <|
  o_callV [5] 3 (wX12_behind E) (x_out Q) <|
  o_putf [7] 2 .int <|
  (bX12_command_201 E Q)
def bX12_command_162 (E : Nat → Value) (Q : Rs → HS → Prop) : Ct :=
  o_aload 1 <|
  o_aload 0 <|
  o_push (.int 46) <|
  o_push (.int 2) <|
  o_callV [5] 3 (wX12_behind E) (x_out Q) <|
  o_putf [7] 2 .int <|
  o_aload 1 <|
  o_aload 0 <|
  o_push (.int 61) <|
  o_push (.int 1) <|
  o_callV [5] 3 (wX12_behind E) (x_out Q) <|
  o_putf [7] 6 .int <|
  (bX12_command_201 E Q)
def bX12_command_154 (E : Nat → Value) (Q : Rs → HS → Prop) : Ct :=
  o_aload 0 <|
  o_aload 1 <|
  o_callV [5] 2 (wX12_arc E) (x_out Q) <|
  (bX12_command_201 E Q)
def bX12_command_148 (E : Nat → Value) (Q : Rs → HS → Prop) : Ct :=
  o_putf [7] 6 .int <|
  (bX12_command_201 E Q)
def bX12_command_143 (E : Nat → Value) (Q : Rs → HS → Prop) : Ct :=
  o_aload 0 <|
  o_push (.int 1) <|
  o_callV [5] 2 (wX12_number E) (x_out Q) <|
  (bX12_command_148 E Q)
def bX12_command_108 (E : Nat → Value) (Q : Rs → HS → Prop) : Ct :=
  o_aload 1 <|
  o_aload 0 <|
  o_push (.int 46) <|
  o_push (.int 1) <|
  o_callV [5] 3 (wX12_behind E) (x_out Q) <|
  o_putf [7] 2 .int <|
  o_aload 0 <|
  o_aload 0 <|
  o_push (.int 61) <|
  o_callV [5] 2 (wX12_takes E) (x_out Q) <|
  o_callV [5] 2 (wX12_needs E) (x_out Q) <|
  o_aload 1 <|
  o_aload 0 <|
  o_push (.int 45) <|
  o_callV [5] 2 (wX12_takes E) (x_out Q) <|
  o_ifeq (bX12_command_143 E Q) <|
  o_push (.int (-1)) <|
  (bX12_command_148 E Q)
def bX12_command_19 (E : Nat → Value) (Q : Rs → HS → Prop) : Ct :=
  o_callV [5] 2 (wX12_needs E) (x_out Q) <|
  o_new 7 7 [.int 0, .int 0, .int 0, .int 0, .int 0, .int 0, .int 0] <|
  o_dup <|
  o_aload 0 <|
  o_getf [5] 1 <|
  o_getf [0] 8 <|
  o_aload 0 <|
  o_getf [5] 0 <|
  o_callV [18] 2 (wJ5_charAt E) (x_out Q) <|
  o_callI 2 (wX14_init E) (x_out Q) <|
  o_astore 1 <|
  o_aload 0 <|
  o_dup <|
  o_getf [5] 0 <|
  o_push (.int 1) <|
  o_iadd <|
  o_putf [5] 0 .int <|
  o_aload 1 <|
  o_aload 0 <|
  o_push (.int 1) <|
  o_callV [5] 2 (wX12_number E) (x_out Q) <|
  o_putf [7] 1 .int <|
  o_aload 1 <|
  o_getf [7] 0 <|
  o_sw [(97, (bX12_command_154 E Q)), (100, (bX12_command_187 E Q)), (102, (bX12_command_108 E Q)), (119, (bX12_command_162 E Q))] (bX12_command_201 E Q)
def bX12_command_18 (E : Nat → Value) (Q : Rs → HS → Prop) : Ct :=
  o_push (.int 0) <|
  (bX12_command_19 E Q)
def bX12_command_0 (E : Nat → Value) (Q : Rs → HS → Prop) : Ct :=
  o_aload 0 <|
  o_push (E 102) <|
  o_aload 0 <|
  o_callV [5] 1 (wX12_here E) (x_out Q) <|
  o_i2c <|
  o_callV [19] 2 (wJ6_indexOf E) (x_out Q) <|
  o_iflt (bX12_command_18 E Q) <|
  o_push (.int 1) <|
  (bX12_command_19 E Q)
def wX12_command (E : Nat → Value) : Wp := fun av h Q => match av with
  | [a0] => bX12_command_0 E Q [a0, jk] [] h
  | _ => False
set_option maxHeartbeats 4000000 in
theorem tX12_command_201 {x : CX} {E : Nat → Value} {Q : Rs → HS → Prop} (EN : EX x E) (G : Gd x cX12_command "ChantRules$Reader" yX12_command 2 (Option.some (Jvm.ClassFile.FieldType.object "ChantRules$Command")) Q) (hF : x.1.2.2.2.frames = 11 ∧ x.1.2.2.2.locals = 264) (hC : x.2.2.2.2.2 = (fun _ => false)) (hxt : (∀ z ∈ x.2.2.1.2.1.exceptionTable.toList, False)) : Snd x 201 (bX12_command_201 E Q) := by
  unfold bX12_command_201
  refine s_aload_n rfl G.b dX12_command_201 ?_
  exact s_areturn (Or.inl ⟨_, rfl⟩) G dX12_command_202
set_option maxHeartbeats 4000000 in
theorem tX12_command_187 {x : CX} {E : Nat → Value} {Q : Rs → HS → Prop} (EN : EX x E) (G : Gd x cX12_command "ChantRules$Reader" yX12_command 2 (Option.some (Jvm.ClassFile.FieldType.object "ChantRules$Command")) Q) (hF : x.1.2.2.2.frames = 11 ∧ x.1.2.2.2.locals = 264) (hC : x.2.2.2.2.2 = (fun _ => false)) (hxt : (∀ z ∈ x.2.2.1.2.1.exceptionTable.toList, False)) : Snd x 187 (bX12_command_187 E Q) := by
  unfold bX12_command_187
  refine s_aload_n rfl G.b dX12_command_187 ?_
  refine s_aload_n rfl G.b dX12_command_188 ?_
  refine s_bipush (by decide) G.b dX12_command_189 ?_
  refine s_iconst (by decide) G.b dX12_command_191 ?_
  refine s_callV G (mX12_behind EN) q1621 q1623 (sel_cons (r := (RX12, TX12, 2)) (by decide) rfl qs26 (sel_nil)) q107 q1624 nmk_198 (rm_of hF (Nat.le_of_ble_eq_true rfl) (Nat.le_of_ble_eq_true rfl)) dX12_command_192 ?_ (sx_out G (fun z hz => (hxt z hz).elim))
  refine s_putfN G.b G.ow G.kn (va_Nw.use rfl (va_Nw.warmF G.warm (EN.nw q1592 rfl))) (fun _ h => h) fa_56 (la_cons (r := (RX14, TX14, 7)) G.hts (by decide) rfl q1605 (la_nil)) (by decide +kernel) dX12_command_195 ?_
  exact s_goto (tgt := 201) G.b dX12_command_198 (by decide) (tX12_command_201 EN G hF hC hxt)
set_option maxHeartbeats 4000000 in
theorem tX12_command_162 {x : CX} {E : Nat → Value} {Q : Rs → HS → Prop} (EN : EX x E) (G : Gd x cX12_command "ChantRules$Reader" yX12_command 2 (Option.some (Jvm.ClassFile.FieldType.object "ChantRules$Command")) Q) (hF : x.1.2.2.2.frames = 11 ∧ x.1.2.2.2.locals = 264) (hC : x.2.2.2.2.2 = (fun _ => false)) (hxt : (∀ z ∈ x.2.2.1.2.1.exceptionTable.toList, False)) : Snd x 162 (bX12_command_162 E Q) := by
  unfold bX12_command_162
  refine s_aload_n rfl G.b dX12_command_162 ?_
  refine s_aload_n rfl G.b dX12_command_163 ?_
  refine s_bipush (by decide) G.b dX12_command_164 ?_
  refine s_iconst (by decide) G.b dX12_command_166 ?_
  refine s_callV G (mX12_behind EN) q1621 q1623 (sel_cons (r := (RX12, TX12, 2)) (by decide) rfl qs26 (sel_nil)) q107 q1624 nmk_198 (rm_of hF (Nat.le_of_ble_eq_true rfl) (Nat.le_of_ble_eq_true rfl)) dX12_command_167 ?_ (sx_out G (fun z hz => (hxt z hz).elim))
  refine s_putfN G.b G.ow G.kn (va_Nw.use rfl (va_Nw.warmF G.warm (EN.nw q1592 rfl))) (fun _ h => h) fa_56 (la_cons (r := (RX14, TX14, 7)) G.hts (by decide) rfl q1605 (la_nil)) (by decide +kernel) dX12_command_170 ?_
  refine s_aload_n rfl G.b dX12_command_173 ?_
  refine s_aload_n rfl G.b dX12_command_174 ?_
  refine s_bipush (by decide) G.b dX12_command_175 ?_
  refine s_iconst (by decide) G.b dX12_command_177 ?_
  refine s_callV G (mX12_behind EN) q1621 q1623 (sel_cons (r := (RX12, TX12, 2)) (by decide) rfl qs26 (sel_nil)) q107 q1624 nmk_198 (rm_of hF (Nat.le_of_ble_eq_true rfl) (Nat.le_of_ble_eq_true rfl)) dX12_command_178 ?_ (sx_out G (fun z hz => (hxt z hz).elim))
  refine s_putfN G.b G.ow G.kn (va_Nw.use rfl (va_Nw.warmF G.warm (EN.nw q1600 rfl))) (fun _ h => h) fa_60 (la_cons (r := (RX14, TX14, 7)) G.hts (by decide) rfl q1613 (la_nil)) (by decide +kernel) dX12_command_181 ?_
  exact s_goto (tgt := 201) G.b dX12_command_184 (by decide) (tX12_command_201 EN G hF hC hxt)
set_option maxHeartbeats 4000000 in
theorem tX12_command_154 {x : CX} {E : Nat → Value} {Q : Rs → HS → Prop} (EN : EX x E) (G : Gd x cX12_command "ChantRules$Reader" yX12_command 2 (Option.some (Jvm.ClassFile.FieldType.object "ChantRules$Command")) Q) (hF : x.1.2.2.2.frames = 11 ∧ x.1.2.2.2.locals = 264) (hC : x.2.2.2.2.2 = (fun _ => false)) (hxt : (∀ z ∈ x.2.2.1.2.1.exceptionTable.toList, False)) : Snd x 154 (bX12_command_154 E Q) := by
  unfold bX12_command_154
  refine s_aload_n rfl G.b dX12_command_154 ?_
  refine s_aload_n rfl G.b dX12_command_155 ?_
  refine s_callV G (mX12_arc EN) q1629 q1631 (sel_cons (r := (RX12, TX12, 2)) (by decide) rfl qs28 (sel_nil)) q107 q1632 nmk_211 (rm_of hF (Nat.le_of_ble_eq_true rfl) (Nat.le_of_ble_eq_true rfl)) dX12_command_156 ?_ (sx_out G (fun z hz => (hxt z hz).elim))
  exact s_goto (tgt := 201) G.b dX12_command_159 (by decide) (tX12_command_201 EN G hF hC hxt)
set_option maxHeartbeats 4000000 in
theorem tX12_command_148 {x : CX} {E : Nat → Value} {Q : Rs → HS → Prop} (EN : EX x E) (G : Gd x cX12_command "ChantRules$Reader" yX12_command 2 (Option.some (Jvm.ClassFile.FieldType.object "ChantRules$Command")) Q) (hF : x.1.2.2.2.frames = 11 ∧ x.1.2.2.2.locals = 264) (hC : x.2.2.2.2.2 = (fun _ => false)) (hxt : (∀ z ∈ x.2.2.1.2.1.exceptionTable.toList, False)) : Snd x 148 (bX12_command_148 E Q) := by
  unfold bX12_command_148
  refine s_putfN G.b G.ow G.kn (va_Nw.use rfl (va_Nw.warmF G.warm (EN.nw q1600 rfl))) (fun _ h => h) fa_60 (la_cons (r := (RX14, TX14, 7)) G.hts (by decide) rfl q1613 (la_nil)) (by decide +kernel) dX12_command_148 ?_
  exact s_goto (tgt := 201) G.b dX12_command_151 (by decide) (tX12_command_201 EN G hF hC hxt)
set_option maxHeartbeats 4000000 in
theorem tX12_command_143 {x : CX} {E : Nat → Value} {Q : Rs → HS → Prop} (EN : EX x E) (G : Gd x cX12_command "ChantRules$Reader" yX12_command 2 (Option.some (Jvm.ClassFile.FieldType.object "ChantRules$Command")) Q) (hF : x.1.2.2.2.frames = 11 ∧ x.1.2.2.2.locals = 264) (hC : x.2.2.2.2.2 = (fun _ => false)) (hxt : (∀ z ∈ x.2.2.1.2.1.exceptionTable.toList, False)) : Snd x 143 (bX12_command_143 E Q) := by
  unfold bX12_command_143
  refine s_aload_n rfl G.b dX12_command_143 ?_
  refine s_iconst (by decide) G.b dX12_command_144 ?_
  refine s_callV G (mX12_number EN) q1616 q1618 (sel_cons (r := (RX12, TX12, 2)) (by decide) rfl qs25 (sel_nil)) q107 q1619 nmk_197 (rm_of hF (Nat.le_of_ble_eq_true rfl) (Nat.le_of_ble_eq_true rfl)) dX12_command_145 ?_ (sx_out G (fun z hz => (hxt z hz).elim))
  exact (tX12_command_148 EN G hF hC hxt)
set_option maxHeartbeats 4000000 in
theorem tX12_command_108 {x : CX} {E : Nat → Value} {Q : Rs → HS → Prop} (EN : EX x E) (G : Gd x cX12_command "ChantRules$Reader" yX12_command 2 (Option.some (Jvm.ClassFile.FieldType.object "ChantRules$Command")) Q) (hF : x.1.2.2.2.frames = 11 ∧ x.1.2.2.2.locals = 264) (hC : x.2.2.2.2.2 = (fun _ => false)) (hxt : (∀ z ∈ x.2.2.1.2.1.exceptionTable.toList, False)) : Snd x 108 (bX12_command_108 E Q) := by
  unfold bX12_command_108
  refine s_aload_n rfl G.b dX12_command_108 ?_
  refine s_aload_n rfl G.b dX12_command_109 ?_
  refine s_bipush (by decide) G.b dX12_command_110 ?_
  refine s_iconst (by decide) G.b dX12_command_112 ?_
  refine s_callV G (mX12_behind EN) q1621 q1623 (sel_cons (r := (RX12, TX12, 2)) (by decide) rfl qs26 (sel_nil)) q107 q1624 nmk_198 (rm_of hF (Nat.le_of_ble_eq_true rfl) (Nat.le_of_ble_eq_true rfl)) dX12_command_113 ?_ (sx_out G (fun z hz => (hxt z hz).elim))
  refine s_putfN G.b G.ow G.kn (va_Nw.use rfl (va_Nw.warmF G.warm (EN.nw q1592 rfl))) (fun _ h => h) fa_56 (la_cons (r := (RX14, TX14, 7)) G.hts (by decide) rfl q1605 (la_nil)) (by decide +kernel) dX12_command_116 ?_
  refine s_aload_n rfl G.b dX12_command_119 ?_
  refine s_aload_n rfl G.b dX12_command_120 ?_
  refine s_bipush (by decide) G.b dX12_command_121 ?_
  refine s_callV G (mX12_takes EN) q1625 q1627 (sel_cons (r := (RX12, TX12, 2)) (by decide) rfl qs27 (sel_nil)) q107 q1628 nmk_196 (rm_of hF (Nat.le_of_ble_eq_true rfl) (Nat.le_of_ble_eq_true rfl)) dX12_command_123 ?_ (sx_out G (fun z hz => (hxt z hz).elim))
  refine s_callV G (mX12_needs EN) q1558 q1560 (sel_cons (r := (RX12, TX12, 2)) (by decide) rfl qs24 (sel_nil)) q107 q1561 nmk_195 (rm_of hF (Nat.le_of_ble_eq_true rfl) (Nat.le_of_ble_eq_true rfl)) dX12_command_126 ?_ (sx_out G (fun z hz => (hxt z hz).elim))
  refine s_aload_n rfl G.b dX12_command_129 ?_
  refine s_aload_n rfl G.b dX12_command_130 ?_
  refine s_bipush (by decide) G.b dX12_command_131 ?_
  refine s_callV G (mX12_takes EN) q1625 q1627 (sel_cons (r := (RX12, TX12, 2)) (by decide) rfl qs27 (sel_nil)) q107 q1628 nmk_196 (rm_of hF (Nat.le_of_ble_eq_true rfl) (Nat.le_of_ble_eq_true rfl)) dX12_command_133 ?_ (sx_out G (fun z hz => (hxt z hz).elim))
  refine s_ifeq (tgt := 143) G.b dX12_command_136 (by decide) (tX12_command_143 EN G hF hC hxt) ?_
  refine s_iconst (by decide) G.b dX12_command_139 ?_
  exact s_goto (tgt := 148) G.b dX12_command_140 (by decide) (tX12_command_148 EN G hF hC hxt)
set_option maxHeartbeats 4000000 in
theorem tX12_command_19 {x : CX} {E : Nat → Value} {Q : Rs → HS → Prop} (EN : EX x E) (G : Gd x cX12_command "ChantRules$Reader" yX12_command 2 (Option.some (Jvm.ClassFile.FieldType.object "ChantRules$Command")) Q) (hF : x.1.2.2.2.frames = 11 ∧ x.1.2.2.2.locals = 264) (hC : x.2.2.2.2.2 = (fun _ => false)) (hxt : (∀ z ∈ x.2.2.1.2.1.exceptionTable.toList, False)) : Snd x 19 (bX12_command_19 E Q) := by
  unfold bX12_command_19
  refine s_callV G (mX12_needs EN) q1558 q1560 (sel_cons (r := (RX12, TX12, 2)) (by decide) rfl qs24 (sel_nil)) q107 q1561 nmk_195 (rm_of hF (Nat.le_of_ble_eq_true rfl) (Nat.le_of_ble_eq_true rfl)) dX12_command_19 ?_ (sx_out G (fun z hz => (hxt z hz).elim))
  refine s_new (C := RX14) (T0 := TX14) (N := 7) G.b G.ow G.kn G.gr G.hts rfl (by decide) in_X14 q1581 q1582 q112 tyX14 tyX14_ok rfl dX12_command_22 ?_
  refine s_dup G.b dX12_command_25 ?_
  refine s_aload_n rfl G.b dX12_command_26 ?_
  refine s_getf G.b G.ow G.kn (G.hts _ q1462) (fun _ h => h) fa_64 dX12_command_27 ?_
  refine s_getfN G.b G.ow G.kn (va_Nw.use rfl (va_Nw.warmF G.warm (EN.nw q308 rfl))) (fun _ h => h) fa_13 dX12_command_30 ?_
  refine s_aload_n rfl G.b dX12_command_33 ?_
  refine s_getf G.b G.ow G.kn (G.hts _ q1461) (fun _ h => h) fa_66 dX12_command_34 ?_
  refine s_callV G (mJ5_charAt EN) q1502 q944 (sel_cons (r := (RJ5, TJ5, 4)) (by decide) rfl q945 (sel_nil)) q85 q946 nmk_94 (rm_of hF (Nat.le_of_ble_eq_true rfl) (Nat.le_of_ble_eq_true rfl)) dX12_command_37 ?_ (sx_out G (fun z hz => (hxt z hz).elim))
  refine s_callI G (mX14_init EN) rfl q1583 q1584 q112 q1585 nmk_212 (rm_of hF (Nat.le_of_ble_eq_true rfl) (Nat.le_of_ble_eq_true rfl)) dX12_command_40 ?_ (sx_out G (fun z hz => (hxt z hz).elim))
  refine s_astore_n rfl G.b (by rw [G.nl]; decide) (fun _ _ => by rw [hC]) dX12_command_43 ?_
  refine s_aload_n rfl G.b dX12_command_44 ?_
  refine s_dup G.b dX12_command_45 ?_
  refine s_getf G.b G.ow G.kn (G.hts _ q1461) (fun _ h => h) fa_66 dX12_command_46 ?_
  refine s_iconst (by decide) G.b dX12_command_49 ?_
  refine s_iadd G.b dX12_command_50 ?_
  refine s_putf G.b G.ow G.kn (G.hts _ q1461) (fun _ h => h) fa_66 (la_cons (r := (RX12, TX12, 2)) G.hts (by decide) rfl q1463 (la_nil)) (by decide +kernel) dX12_command_51 ?_
  refine s_aload_n rfl G.b dX12_command_54 ?_
  refine s_aload_n rfl G.b dX12_command_55 ?_
  refine s_iconst (by decide) G.b dX12_command_56 ?_
  refine s_callV G (mX12_number EN) q1616 q1618 (sel_cons (r := (RX12, TX12, 2)) (by decide) rfl qs25 (sel_nil)) q107 q1619 nmk_197 (rm_of hF (Nat.le_of_ble_eq_true rfl) (Nat.le_of_ble_eq_true rfl)) dX12_command_57 ?_ (sx_out G (fun z hz => (hxt z hz).elim))
  refine s_putfN G.b G.ow G.kn (va_Nw.use rfl (va_Nw.warmF G.warm (EN.nw q1590 rfl))) (fun _ h => h) fa_55 (la_cons (r := (RX14, TX14, 7)) G.hts (by decide) rfl q1603 (la_nil)) (by decide +kernel) dX12_command_60 ?_
  refine s_aload_n rfl G.b dX12_command_63 ?_
  refine s_getfN G.b G.ow G.kn (va_Nw.use rfl (va_Nw.warmF G.warm (EN.nw q1588 rfl))) (fun _ h => h) fa_61 dX12_command_64 ?_
  exact s_lsw (tD := 201) G.b dX12_command_67 (by decide) (by decide) (tX12_command_201 EN G hF hC hxt) rfl (lsw_cons 154 (by decide) (by decide) (tX12_command_154 EN G hF hC hxt) (lsw_cons 187 (by decide) (by decide) (tX12_command_187 EN G hF hC hxt) (lsw_cons 108 (by decide) (by decide) (tX12_command_108 EN G hF hC hxt) (lsw_cons 162 (by decide) (by decide) (tX12_command_162 EN G hF hC hxt) (lsw_nil)))))
set_option maxHeartbeats 4000000 in
theorem tX12_command_18 {x : CX} {E : Nat → Value} {Q : Rs → HS → Prop} (EN : EX x E) (G : Gd x cX12_command "ChantRules$Reader" yX12_command 2 (Option.some (Jvm.ClassFile.FieldType.object "ChantRules$Command")) Q) (hF : x.1.2.2.2.frames = 11 ∧ x.1.2.2.2.locals = 264) (hC : x.2.2.2.2.2 = (fun _ => false)) (hxt : (∀ z ∈ x.2.2.1.2.1.exceptionTable.toList, False)) : Snd x 18 (bX12_command_18 E Q) := by
  unfold bX12_command_18
  refine s_iconst (by decide) G.b dX12_command_18 ?_
  exact (tX12_command_19 EN G hF hC hxt)
set_option maxHeartbeats 4000000 in
theorem tX12_command_0 {x : CX} {E : Nat → Value} {Q : Rs → HS → Prop} (EN : EX x E) (G : Gd x cX12_command "ChantRules$Reader" yX12_command 2 (Option.some (Jvm.ClassFile.FieldType.object "ChantRules$Command")) Q) (hF : x.1.2.2.2.frames = 11 ∧ x.1.2.2.2.locals = 264) (hC : x.2.2.2.2.2 = (fun _ => false)) (hxt : (∀ z ∈ x.2.2.1.2.1.exceptionTable.toList, False)) : Snd x 0 (bX12_command_0 E Q) := by
  unfold bX12_command_0
  refine s_aload_n rfl G.b dX12_command_0 ?_
  refine s_ldcSt EN G (i := 2) rfl dX12_command_1 ?_
  refine s_aload_n rfl G.b dX12_command_3 ?_
  refine s_callV G (mX12_here EN) q1497 q1499 (sel_cons (r := (RX12, TX12, 2)) (by decide) rfl qs23 (sel_nil)) q107 q1500 nmk_194 (rm_of hF (Nat.le_of_ble_eq_true rfl) (Nat.le_of_ble_eq_true rfl)) dX12_command_4 ?_ (sx_out G (fun z hz => (hxt z hz).elim))
  refine s_i2c G.b dX12_command_7 ?_
  refine s_callV G (mJ6_indexOf EN) q1503 q1504 (sel_cons (r := (RJ6, TJ6, 4)) (by decide) rfl q1505 (sel_nil)) q86 q1506 nmk_213 (rm_of hF (Nat.le_of_ble_eq_true rfl) (Nat.le_of_ble_eq_true rfl)) dX12_command_8 ?_ (sx_out G (fun z hz => (hxt z hz).elim))
  refine s_iflt (tgt := 18) G.b dX12_command_11 (by decide) (tX12_command_18 EN G hF hC hxt) ?_
  refine s_iconst (by decide) G.b dX12_command_14 ?_
  exact s_goto (tgt := 19) G.b dX12_command_15 (by decide) (tX12_command_19 EN G hF hC hxt)
set_option maxHeartbeats 4000000 in
theorem mX12_command {l : Launch} {D : DE} {s0 : State} {E : Nat → Value} (EN : EV l D s0 E) : rMet l D s0 yX12_command (ws_ yX12_command cX12_command 2 (Option.some (Jvm.ClassFile.FieldType.object "ChantRules$Command"))) 11 264 (wX12_command E) := by
  refine body_met (fun _ => false) EN.kn (fun w h => h) (by decide +kernel) rfl (fun av h Q hw => ?_) ?_
  · unfold wX12_command at hw
    split at hw
    · exact Nat.le_of_ble_eq_true rfl
    · exact hw.elim
  · intro p e s m below meth c av h Q hxt G hw
    unfold wX12_command at hw
    split at hw
    · exact tX12_command_0 EN G ⟨rfl, rfl⟩ rfl hxt _ _ _ hw
    · exact hw.elim
/-! java/util/AbstractSequentialList.<init>()V (J18_init) -/
def bJ18_init_0 (E : Nat → Value) (Q : Rs → HS → Prop) : Ct :=
  o_aload 0 <|
  o_callI 1 (wJ1_init E) (x_out Q) <|
  o_return Q
def wJ18_init (E : Nat → Value) : Wp := fun av h Q => match av with
  | [a0] => bJ18_init_0 E Q [a0] [] h
  | _ => False
set_option maxHeartbeats 4000000 in
theorem tJ18_init_0 {x : CX} {E : Nat → Value} {Q : Rs → HS → Prop} (EN : EX x E) (G : Gd x cJ18_init "java/util/AbstractSequentialList" yJ18_init 1 (Option.none : Option Jvm.ClassFile.FieldType) Q) (hF : x.1.2.2.2.frames = 4 ∧ x.1.2.2.2.locals = 104) (hC : x.2.2.2.2.2 = (fun _ => false)) (hxt : (∀ z ∈ x.2.2.1.2.1.exceptionTable.toList, False)) : Snd x 0 (bJ18_init_0 E Q) := by
  unfold bJ18_init_0
  refine s_aload_n rfl G.b dJ18_init_0 ?_
  refine s_callI G (mJ1_init EN) rfl q1480 q148 q81 q149 nmk_1 (rm_of hF (Nat.le_of_ble_eq_true rfl) (Nat.le_of_ble_eq_true rfl)) dJ18_init_1 ?_ (sx_out G (fun z hz => (hxt z hz).elim))
  exact s_return G dJ18_init_4
set_option maxHeartbeats 4000000 in
theorem mJ18_init {l : Launch} {D : DE} {s0 : State} {E : Nat → Value} (EN : EV l D s0 E) : rMet l D s0 yJ18_init (ws_ yJ18_init cJ18_init 1 (Option.none : Option Jvm.ClassFile.FieldType)) 4 104 (wJ18_init E) := by
  refine body_met (fun _ => false) EN.kn (fun w h => h) (by decide +kernel) rfl (fun av h Q hw => ?_) ?_
  · unfold wJ18_init at hw
    split at hw
    · exact Nat.le_of_ble_eq_true rfl
    · exact hw.elim
  · intro p e s m below meth c av h Q hxt G hw
    unfold wJ18_init at hw
    split at hw
    · exact tJ18_init_0 EN G ⟨rfl, rfl⟩ rfl hxt _ _ _ hw
    · exact hw.elim
/-! java/util/LinkedList.<init>()V (J19_init) -/
theorem nmk_214 : nm_ok yJ18_init 0 := ⟨by decide +kernel, by decide +kernel, by decide +kernel⟩
theorem fa_67 : fieldAt [14] 1 "java/util/LinkedList" "size" "I" := fa_cons (r := (RJ19, TJ19, 4)) rfl (by decide) rfl rfl rfl (fa_nil)
def bJ19_init_0 (E : Nat → Value) (Q : Rs → HS → Prop) : Ct :=
  o_aload 0 <|
  o_callI 1 (wJ18_init E) (x_out Q) <|
  o_aload 0 <|
  o_push (.int 0) <|
  o_putf [14] 1 .int <|
  o_return Q
def wJ19_init (E : Nat → Value) : Wp := fun av h Q => match av with
  | [a0] => bJ19_init_0 E Q [a0] [] h
  | _ => False
set_option maxHeartbeats 4000000 in
theorem tJ19_init_0 {x : CX} {E : Nat → Value} {Q : Rs → HS → Prop} (EN : EX x E) (G : Gd x cJ19_init "java/util/LinkedList" yJ19_init 1 (Option.none : Option Jvm.ClassFile.FieldType) Q) (hF : x.1.2.2.2.frames = 5 ∧ x.1.2.2.2.locals = 124) (hC : x.2.2.2.2.2 = (fun _ => false)) (hxt : (∀ z ∈ x.2.2.1.2.1.exceptionTable.toList, False)) : Snd x 0 (bJ19_init_0 E Q) := by
  unfold bJ19_init_0
  refine s_aload_n rfl G.b dJ19_init_0 ?_
  refine s_callI G (mJ18_init EN) rfl q1477 q1478 q108 q1479 nmk_214 (rm_of hF (Nat.le_of_ble_eq_true rfl) (Nat.le_of_ble_eq_true rfl)) dJ19_init_1 ?_ (sx_out G (fun z hz => (hxt z hz).elim))
  refine s_aload_n rfl G.b dJ19_init_4 ?_
  refine s_iconst (by decide) G.b dJ19_init_5 ?_
  refine s_putf G.b G.ow G.kn (G.hts _ q1481) (fun _ h => h) fa_67 (la_cons (r := (RJ19, TJ19, 4)) G.hts (by decide) rfl q1484 (la_nil)) (by decide +kernel) dJ19_init_6 ?_
  exact s_return G dJ19_init_9
set_option maxHeartbeats 4000000 in
theorem mJ19_init {l : Launch} {D : DE} {s0 : State} {E : Nat → Value} (EN : EV l D s0 E) : rMet l D s0 yJ19_init (ws_ yJ19_init cJ19_init 1 (Option.none : Option Jvm.ClassFile.FieldType)) 5 124 (wJ19_init E) := by
  refine body_met (fun _ => false) EN.kn (fun w h => h) (by decide +kernel) rfl (fun av h Q hw => ?_) ?_
  · unfold wJ19_init at hw
    split at hw
    · exact Nat.le_of_ble_eq_true rfl
    · exact hw.elim
  · intro p e s m below meth c av h Q hxt G hw
    unfold wJ19_init at hw
    split at hw
    · exact tJ19_init_0 EN G ⟨rfl, rfl⟩ rfl hxt _ _ _ hw
    · exact hw.elim
/-! java/util/LinkedList$Node.<init>(Ljava/util/LinkedList$Node;Ljava/lang/Object;Ljava/util/LinkedList$Node;)V (J21_init) -/
theorem fa_68 : fieldAt [16] 0 "java/util/LinkedList$Node" "item" "Ljava/lang/Object;" := fa_cons (r := (RJ21, TJ21, 3)) rfl (by decide) rfl rfl rfl (fa_nil)
theorem fa_69 : fieldAt [16] 1 "java/util/LinkedList$Node" "next" "Ljava/util/LinkedList$Node;" := fa_cons (r := (RJ21, TJ21, 3)) rfl (by decide) rfl rfl rfl (fa_nil)
theorem fa_70 : fieldAt [16] 2 "java/util/LinkedList$Node" "prev" "Ljava/util/LinkedList$Node;" := fa_cons (r := (RJ21, TJ21, 3)) rfl (by decide) rfl rfl rfl (fa_nil)
def bJ21_init_0 (E : Nat → Value) (Q : Rs → HS → Prop) : Ct :=
  o_aload 0 <|
  o_objInit <|
  o_aload 0 <|
  o_aload 2 <|
  o_putf [16] 0 (.object "java/lang/Object") <|
  o_aload 0 <|
  o_aload 3 <|
  o_putf [16] 1 (.object "java/util/LinkedList$Node") <|
  o_aload 0 <|
  o_aload 1 <|
  o_putf [16] 2 (.object "java/util/LinkedList$Node") <|
  o_return Q
def wJ21_init (E : Nat → Value) : Wp := fun av h Q => match av with
  | [a0, a1, a2, a3] => bJ21_init_0 E Q [a0, a1, a2, a3] [] h
  | _ => False
set_option maxHeartbeats 4000000 in
theorem tJ21_init_0 {x : CX} {E : Nat → Value} {Q : Rs → HS → Prop} (EN : EX x E) (G : Gd x cJ21_init "java/util/LinkedList$Node" yJ21_init 4 (Option.none : Option Jvm.ClassFile.FieldType) Q) (hF : x.1.2.2.2.frames = 2 ∧ x.1.2.2.2.locals = 64) (hC : x.2.2.2.2.2 = (fun _ => false)) (hxt : (∀ z ∈ x.2.2.1.2.1.exceptionTable.toList, False)) : Snd x 0 (bJ21_init_0 E Q) := by
  unfold bJ21_init_0
  refine s_aload_n rfl G.b dJ21_init_0 ?_
  refine s_objInit G.b G.ow G.hts q1653 q122 q123 G.ml (by rw [hF.1]; decide) (by rw [hF.2]; decide) dJ21_init_1 ?_
  refine s_aload_n rfl G.b dJ21_init_4 ?_
  refine s_aload_n rfl G.b dJ21_init_5 ?_
  refine s_putf G.b G.ow G.kn (G.hts _ q1654) (fun _ h => h) fa_68 (la_cons (r := (RJ21, TJ21, 3)) G.hts (by decide) rfl q1660 (la_nil)) (by decide +kernel) dJ21_init_6 ?_
  refine s_aload_n rfl G.b dJ21_init_9 ?_
  refine s_aload_n rfl G.b dJ21_init_10 ?_
  refine s_putf G.b G.ow G.kn (G.hts _ q1656) (fun _ h => h) fa_69 (la_cons (r := (RJ21, TJ21, 3)) G.hts (by decide) rfl q1662 (la_nil)) (by decide +kernel) dJ21_init_11 ?_
  refine s_aload_n rfl G.b dJ21_init_14 ?_
  refine s_aload_n rfl G.b dJ21_init_15 ?_
  refine s_putf G.b G.ow G.kn (G.hts _ q1658) (fun _ h => h) fa_70 (la_cons (r := (RJ21, TJ21, 3)) G.hts (by decide) rfl q1664 (la_nil)) (by decide +kernel) dJ21_init_16 ?_
  exact s_return G dJ21_init_19
set_option maxHeartbeats 4000000 in
theorem mJ21_init {l : Launch} {D : DE} {s0 : State} {E : Nat → Value} (EN : EV l D s0 E) : rMet l D s0 yJ21_init (ws_ yJ21_init cJ21_init 4 (Option.none : Option Jvm.ClassFile.FieldType)) 2 64 (wJ21_init E) := by
  refine body_met (fun _ => false) EN.kn (fun w h => h) (by decide +kernel) rfl (fun av h Q hw => ?_) ?_
  · unfold wJ21_init at hw
    split at hw
    · exact Nat.le_of_ble_eq_true rfl
    · exact hw.elim
  · intro p e s m below meth c av h Q hxt G hw
    unfold wJ21_init at hw
    split at hw
    · exact tJ21_init_0 EN G ⟨rfl, rfl⟩ rfl hxt _ _ _ hw
    · exact hw.elim
/-! java/util/LinkedList.linkLast(Ljava/lang/Object;)V (J19_linkLast) -/
theorem fa_71 : fieldAt [14] 3 "java/util/LinkedList" "last" "Ljava/util/LinkedList$Node;" := fa_cons (r := (RJ19, TJ19, 4)) rfl (by decide) rfl rfl rfl (fa_nil)
theorem nmk_215 : nm_ok yJ21_init 3 := ⟨by decide +kernel, by decide +kernel, by decide +kernel⟩
theorem fa_72 : fieldAt [14] 2 "java/util/LinkedList" "first" "Ljava/util/LinkedList$Node;" := fa_cons (r := (RJ19, TJ19, 4)) rfl (by decide) rfl rfl rfl (fa_nil)
def bJ19_linkLast_38 (E : Nat → Value) (Q : Rs → HS → Prop) : Ct :=
  o_aload 0 <|
  o_dup <|
  o_getf [14] 1 <|
  o_push (.int 1) <|
  o_iadd <|
  o_putf [14] 1 .int <|
  o_aload 0 <|
  o_dup <|
  o_getf [14, 15] 0 <|
  o_push (.int 1) <|
  o_iadd <|
  o_putf [14, 15] 0 .int <|
  o_return Q
def bJ19_linkLast_33 (E : Nat → Value) (Q : Rs → HS → Prop) : Ct :=
  o_aload 2 <|
  o_aload 3 <|
  o_putf [16] 1 (.object "java/util/LinkedList$Node") <|
  (bJ19_linkLast_38 E Q)
def bJ19_linkLast_0 (E : Nat → Value) (Q : Rs → HS → Prop) : Ct :=
  o_aload 0 <|
  o_getf [14] 3 <|
  o_astore 2 <|
  o_new 16 3 [.null, .null, .null] <|
  o_dup <|
  o_aload 2 <|
  o_aload 1 <|
  o_push .null <|
  o_callI 4 (wJ21_init E) (x_out Q) <|
  o_astore 3 <|
  o_aload 0 <|
  o_aload 3 <|
  o_putf [14] 3 (.object "java/util/LinkedList$Node") <|
  o_aload 2 <|
  o_ifnonnull (bJ19_linkLast_33 E Q) <|
  o_aload 0 <|
  o_aload 3 <|
  o_putf [14] 2 (.object "java/util/LinkedList$Node") <|
  (bJ19_linkLast_38 E Q)
def wJ19_linkLast (E : Nat → Value) : Wp := fun av h Q => match av with
  | [a0, a1] => bJ19_linkLast_0 E Q [a0, a1, jk, jk] [] h
  | _ => False
set_option maxHeartbeats 4000000 in
theorem tJ19_linkLast_38 {x : CX} {E : Nat → Value} {Q : Rs → HS → Prop} (EN : EX x E) (G : Gd x cJ19_linkLast "java/util/LinkedList" yJ19_linkLast 4 (Option.none : Option Jvm.ClassFile.FieldType) Q) (hF : x.1.2.2.2.frames = 3 ∧ x.1.2.2.2.locals = 87) (hC : x.2.2.2.2.2 = (fun _ => false)) (hxt : (∀ z ∈ x.2.2.1.2.1.exceptionTable.toList, False)) : Snd x 38 (bJ19_linkLast_38 E Q) := by
  unfold bJ19_linkLast_38
  refine s_aload_n rfl G.b dJ19_linkLast_38 ?_
  refine s_dup G.b dJ19_linkLast_39 ?_
  refine s_getf G.b G.ow G.kn (G.hts _ q1481) (fun _ h => h) fa_67 dJ19_linkLast_40 ?_
  refine s_iconst (by decide) G.b dJ19_linkLast_43 ?_
  refine s_iadd G.b dJ19_linkLast_44 ?_
  refine s_putf G.b G.ow G.kn (G.hts _ q1481) (fun _ h => h) fa_67 (la_cons (r := (RJ19, TJ19, 4)) G.hts (by decide) rfl q1484 (la_nil)) (by decide +kernel) dJ19_linkLast_45 ?_
  refine s_aload_n rfl G.b dJ19_linkLast_48 ?_
  refine s_dup G.b dJ19_linkLast_49 ?_
  refine s_getf G.b G.ow G.kn (G.hts _ q165) (u_same (G.hts _ q166)) fa_0 dJ19_linkLast_50 ?_
  refine s_iconst (by decide) G.b dJ19_linkLast_53 ?_
  refine s_iadd G.b dJ19_linkLast_54 ?_
  refine s_putf G.b G.ow G.kn (G.hts _ q165) (u_same (G.hts _ q166)) fa_0 (la_cons (r := (RJ19, TJ19, 4)) G.hts (by decide) rfl q1490 (la_cons (r := (RJ2, TJ2, 3)) G.hts (by decide) rfl q172 (la_nil))) (by decide +kernel) dJ19_linkLast_55 ?_
  exact s_return G dJ19_linkLast_58
set_option maxHeartbeats 4000000 in
theorem tJ19_linkLast_33 {x : CX} {E : Nat → Value} {Q : Rs → HS → Prop} (EN : EX x E) (G : Gd x cJ19_linkLast "java/util/LinkedList" yJ19_linkLast 4 (Option.none : Option Jvm.ClassFile.FieldType) Q) (hF : x.1.2.2.2.frames = 3 ∧ x.1.2.2.2.locals = 87) (hC : x.2.2.2.2.2 = (fun _ => false)) (hxt : (∀ z ∈ x.2.2.1.2.1.exceptionTable.toList, False)) : Snd x 33 (bJ19_linkLast_33 E Q) := by
  unfold bJ19_linkLast_33
  refine s_aload_n rfl G.b dJ19_linkLast_33 ?_
  refine s_aload_n rfl G.b dJ19_linkLast_34 ?_
  refine s_putf G.b G.ow G.kn (G.hts _ q1657) (fun _ h => h) fa_69 (la_cons (r := (RJ21, TJ21, 3)) G.hts (by decide) rfl q1662 (la_nil)) (by decide +kernel) dJ19_linkLast_35 ?_
  exact (tJ19_linkLast_38 EN G hF hC hxt)
set_option maxHeartbeats 4000000 in
theorem tJ19_linkLast_0 {x : CX} {E : Nat → Value} {Q : Rs → HS → Prop} (EN : EX x E) (G : Gd x cJ19_linkLast "java/util/LinkedList" yJ19_linkLast 4 (Option.none : Option Jvm.ClassFile.FieldType) Q) (hF : x.1.2.2.2.frames = 3 ∧ x.1.2.2.2.locals = 87) (hC : x.2.2.2.2.2 = (fun _ => false)) (hxt : (∀ z ∈ x.2.2.1.2.1.exceptionTable.toList, False)) : Snd x 0 (bJ19_linkLast_0 E Q) := by
  unfold bJ19_linkLast_0
  refine s_aload_n rfl G.b dJ19_linkLast_0 ?_
  refine s_getf G.b G.ow G.kn (G.hts _ q1483) (fun _ h => h) fa_71 dJ19_linkLast_1 ?_
  refine s_astore_n rfl G.b (by rw [G.nl]; decide) (fun _ _ => by rw [hC]) dJ19_linkLast_4 ?_
  refine s_new (C := RJ21) (T0 := TJ21) (N := 3) G.b G.ow G.kn G.gr G.hts rfl (by decide) in_J21 q1648 q1649 q113 tyJ21 tyJ21_ok rfl dJ19_linkLast_5 ?_
  refine s_dup G.b dJ19_linkLast_8 ?_
  refine s_aload_n rfl G.b dJ19_linkLast_9 ?_
  refine s_aload_n rfl G.b dJ19_linkLast_10 ?_
  refine s_null G.b dJ19_linkLast_11 ?_
  refine s_callI G (mJ21_init EN) rfl q1650 q1651 q113 q1652 nmk_215 (rm_of hF (Nat.le_of_ble_eq_true rfl) (Nat.le_of_ble_eq_true rfl)) dJ19_linkLast_12 ?_ (sx_out G (fun z hz => (hxt z hz).elim))
  refine s_astore_n rfl G.b (by rw [G.nl]; decide) (fun _ _ => by rw [hC]) dJ19_linkLast_15 ?_
  refine s_aload_n rfl G.b dJ19_linkLast_16 ?_
  refine s_aload_n rfl G.b dJ19_linkLast_17 ?_
  refine s_putf G.b G.ow G.kn (G.hts _ q1483) (fun _ h => h) fa_71 (la_cons (r := (RJ19, TJ19, 4)) G.hts (by decide) rfl q1488 (la_nil)) (by decide +kernel) dJ19_linkLast_18 ?_
  refine s_aload_n rfl G.b dJ19_linkLast_21 ?_
  refine s_ifnonnull (tgt := 33) G.b dJ19_linkLast_22 (by decide) (tJ19_linkLast_33 EN G hF hC hxt) ?_
  refine s_aload_n rfl G.b dJ19_linkLast_25 ?_
  refine s_aload_n rfl G.b dJ19_linkLast_26 ?_
  refine s_putf G.b G.ow G.kn (G.hts _ q1482) (fun _ h => h) fa_72 (la_cons (r := (RJ19, TJ19, 4)) G.hts (by decide) rfl q1486 (la_nil)) (by decide +kernel) dJ19_linkLast_27 ?_
  exact s_goto (tgt := 38) G.b dJ19_linkLast_30 (by decide) (tJ19_linkLast_38 EN G hF hC hxt)
set_option maxHeartbeats 4000000 in
theorem mJ19_linkLast {l : Launch} {D : DE} {s0 : State} {E : Nat → Value} (EN : EV l D s0 E) : rMet l D s0 yJ19_linkLast (ws_ yJ19_linkLast cJ19_linkLast 4 (Option.none : Option Jvm.ClassFile.FieldType)) 3 87 (wJ19_linkLast E) := by
  refine body_met (fun _ => false) EN.kn (fun w h => h) (by decide +kernel) rfl (fun av h Q hw => ?_) ?_
  · unfold wJ19_linkLast at hw
    split at hw
    · exact Nat.le_of_ble_eq_true rfl
    · exact hw.elim
  · intro p e s m below meth c av h Q hxt G hw
    unfold wJ19_linkLast at hw
    split at hw
    · exact tJ19_linkLast_0 EN G ⟨rfl, rfl⟩ rfl hxt _ _ _ hw
    · exact hw.elim
/-! java/util/LinkedList.addLast(Ljava/lang/Object;)V (J19_addLast) -/
theorem nmk_216 : nm_ok yJ19_linkLast 1 := ⟨by decide +kernel, by decide +kernel, by decide +kernel⟩
def bJ19_addLast_0 (E : Nat → Value) (Q : Rs → HS → Prop) : Ct :=
  o_aload 0 <|
  o_aload 1 <|
  o_callV [14] 2 (wJ19_linkLast E) (x_out Q) <|
  o_return Q
def wJ19_addLast (E : Nat → Value) : Wp := fun av h Q => match av with
  | [a0, a1] => bJ19_addLast_0 E Q [a0, a1] [] h
  | _ => False
set_option maxHeartbeats 4000000 in
theorem tJ19_addLast_0 {x : CX} {E : Nat → Value} {Q : Rs → HS → Prop} (EN : EX x E) (G : Gd x cJ19_addLast "java/util/LinkedList" yJ19_addLast 2 (Option.none : Option Jvm.ClassFile.FieldType) Q) (hF : x.1.2.2.2.frames = 4 ∧ x.1.2.2.2.locals = 110) (hC : x.2.2.2.2.2 = (fun _ => false)) (hxt : (∀ z ∈ x.2.2.1.2.1.exceptionTable.toList, False)) : Snd x 0 (bJ19_addLast_0 E Q) := by
  unfold bJ19_addLast_0
  refine s_aload_n rfl G.b dJ19_addLast_0 ?_
  refine s_aload_n rfl G.b dJ19_addLast_1 ?_
  refine s_callV G (mJ19_linkLast EN) q1644 q1645 (sel_cons (r := (RJ19, TJ19, 4)) (by decide) rfl q1646 (sel_nil)) q109 q1647 nmk_216 (rm_of hF (Nat.le_of_ble_eq_true rfl) (Nat.le_of_ble_eq_true rfl)) dJ19_addLast_2 ?_ (sx_out G (fun z hz => (hxt z hz).elim))
  exact s_return G dJ19_addLast_5
set_option maxHeartbeats 4000000 in
theorem mJ19_addLast {l : Launch} {D : DE} {s0 : State} {E : Nat → Value} (EN : EV l D s0 E) : rMet l D s0 yJ19_addLast (ws_ yJ19_addLast cJ19_addLast 2 (Option.none : Option Jvm.ClassFile.FieldType)) 4 110 (wJ19_addLast E) := by
  refine body_met (fun _ => false) EN.kn (fun w h => h) (by decide +kernel) rfl (fun av h Q hw => ?_) ?_
  · unfold wJ19_addLast at hw
    split at hw
    · exact Nat.le_of_ble_eq_true rfl
    · exact hw.elim
  · intro p e s m below meth c av h Q hxt G hw
    unfold wJ19_addLast at hw
    split at hw
    · exact tJ19_addLast_0 EN G ⟨rfl, rfl⟩ rfl hxt _ _ _ hw
    · exact hw.elim
/-! ChantRules$Reader.commands()Ljava/util/LinkedList; (X12_commands) -/
theorem nmk_217 : nm_ok yX12_command 0 := ⟨by decide +kernel, by decide +kernel, by decide +kernel⟩
theorem nmk_218 : nm_ok yJ19_addLast 1 := ⟨by decide +kernel, by decide +kernel, by decide +kernel⟩
theorem nmk_219 : nm_ok yJ19_init 0 := ⟨by decide +kernel, by decide +kernel, by decide +kernel⟩
def bX12_commands_59 (E : Nat → Value) (Q : Rs → HS → Prop) (X16 : Ct) : Ct :=
  o_callV [5] 2 (wX12_needs E) (x_out Q) <|
  o_aload 1 <|
  o_areturn Q
def bX12_commands_58 (E : Nat → Value) (Q : Rs → HS → Prop) (X16 : Ct) : Ct :=
  o_push (.int 0) <|
  (bX12_commands_59 E Q X16)
def bX12_commands_36 (E : Nat → Value) (Q : Rs → HS → Prop) (X16 : Ct) : Ct :=
  o_aload 0 <|
  o_aload 0 <|
  o_getf [5] 0 <|
  o_aload 0 <|
  o_getf [5] 1 <|
  o_getf [0] 8 <|
  o_callV [18] 1 (wJ5_length E) (x_out Q) <|
  o_icmpne (bX12_commands_58 E Q X16) <|
  o_push (.int 1) <|
  (bX12_commands_59 E Q X16)
def bX12_commands_16 (E : Nat → Value) (Q : Rs → HS → Prop) (X16 : Ct) : Ct :=
  o_aload 0 <|
  o_push (.int 59) <|
  o_callV [5] 2 (wX12_takes E) (x_out Q) <|
  o_ifeq (bX12_commands_36 E Q X16) <|
  o_aload 1 <|
  o_aload 0 <|
  o_callV [5] 1 (wX12_command E) (x_out Q) <|
  o_callV [14] 2 (wJ19_addLast E) (x_out Q) <|
  X16
def bX12_commands_0 (E : Nat → Value) (Q : Rs → HS → Prop) (X16 : Ct) : Ct :=
  o_new 14 4 [.int 0, .int 0, .null, .null] <|
  o_dup <|
  o_callI 1 (wJ19_init E) (x_out Q) <|
  o_astore 1 <|
  o_aload 1 <|
  o_aload 0 <|
  o_callV [5] 1 (wX12_command E) (x_out Q) <|
  o_callV [14] 2 (wJ19_addLast E) (x_out Q) <|
  X16
def wX12_commands (E : Nat → Value) : Wp := fun av h Q => match av with
  | [a0] => ∀ X16 : Ct, (∀ ls st h, bX12_commands_16 E Q X16 ls st h → X16 ls st h) → bX12_commands_0 E Q X16 [a0, jk] [] h
  | _ => False
set_option maxHeartbeats 4000000 in
theorem tX12_commands_59 {x : CX} {E : Nat → Value} {Q : Rs → HS → Prop} {X16 : Ct} (EN : EX x E) (G : Gd x cX12_commands "ChantRules$Reader" yX12_commands 2 (Option.some (Jvm.ClassFile.FieldType.object "java/util/LinkedList")) Q) (hF : x.1.2.2.2.frames = 12 ∧ x.1.2.2.2.locals = 285) (hC : x.2.2.2.2.2 = (fun _ => false)) (hxt : (∀ z ∈ x.2.2.1.2.1.exceptionTable.toList, False)) (h16 : Snd x 16 X16) : Snd x 59 (bX12_commands_59 E Q X16) := by
  unfold bX12_commands_59
  refine s_callV G (mX12_needs EN) q1558 q1560 (sel_cons (r := (RX12, TX12, 2)) (by decide) rfl qs24 (sel_nil)) q107 q1561 nmk_195 (rm_of hF (Nat.le_of_ble_eq_true rfl) (Nat.le_of_ble_eq_true rfl)) dX12_commands_59 ?_ (sx_out G (fun z hz => (hxt z hz).elim))
  refine s_aload_n rfl G.b dX12_commands_62 ?_
  exact s_areturn (Or.inl ⟨_, rfl⟩) G dX12_commands_63
set_option maxHeartbeats 4000000 in
theorem tX12_commands_58 {x : CX} {E : Nat → Value} {Q : Rs → HS → Prop} {X16 : Ct} (EN : EX x E) (G : Gd x cX12_commands "ChantRules$Reader" yX12_commands 2 (Option.some (Jvm.ClassFile.FieldType.object "java/util/LinkedList")) Q) (hF : x.1.2.2.2.frames = 12 ∧ x.1.2.2.2.locals = 285) (hC : x.2.2.2.2.2 = (fun _ => false)) (hxt : (∀ z ∈ x.2.2.1.2.1.exceptionTable.toList, False)) (h16 : Snd x 16 X16) : Snd x 58 (bX12_commands_58 E Q X16) := by
  unfold bX12_commands_58
  refine s_iconst (by decide) G.b dX12_commands_58 ?_
  exact (tX12_commands_59 EN G hF hC hxt h16)
set_option maxHeartbeats 4000000 in
theorem tX12_commands_36 {x : CX} {E : Nat → Value} {Q : Rs → HS → Prop} {X16 : Ct} (EN : EX x E) (G : Gd x cX12_commands "ChantRules$Reader" yX12_commands 2 (Option.some (Jvm.ClassFile.FieldType.object "java/util/LinkedList")) Q) (hF : x.1.2.2.2.frames = 12 ∧ x.1.2.2.2.locals = 285) (hC : x.2.2.2.2.2 = (fun _ => false)) (hxt : (∀ z ∈ x.2.2.1.2.1.exceptionTable.toList, False)) (h16 : Snd x 16 X16) : Snd x 36 (bX12_commands_36 E Q X16) := by
  unfold bX12_commands_36
  refine s_aload_n rfl G.b dX12_commands_36 ?_
  refine s_aload_n rfl G.b dX12_commands_37 ?_
  refine s_getf G.b G.ow G.kn (G.hts _ q1461) (fun _ h => h) fa_66 dX12_commands_38 ?_
  refine s_aload_n rfl G.b dX12_commands_41 ?_
  refine s_getf G.b G.ow G.kn (G.hts _ q1462) (fun _ h => h) fa_64 dX12_commands_42 ?_
  refine s_getfN G.b G.ow G.kn (va_Nw.use rfl (va_Nw.warmF G.warm (EN.nw q308 rfl))) (fun _ h => h) fa_13 dX12_commands_45 ?_
  refine s_callV G (mJ5_length EN) q1501 q937 (sel_cons (r := (RJ5, TJ5, 4)) (by decide) rfl q938 (sel_nil)) q85 q939 nmk_24 (rm_of hF (Nat.le_of_ble_eq_true rfl) (Nat.le_of_ble_eq_true rfl)) dX12_commands_48 ?_ (sx_out G (fun z hz => (hxt z hz).elim))
  refine s_icmpne (tgt := 58) G.b dX12_commands_51 (by decide) (tX12_commands_58 EN G hF hC hxt h16) ?_
  refine s_iconst (by decide) G.b dX12_commands_54 ?_
  exact s_goto (tgt := 59) G.b dX12_commands_55 (by decide) (tX12_commands_59 EN G hF hC hxt h16)
set_option maxHeartbeats 4000000 in
theorem tX12_commands_16 {x : CX} {E : Nat → Value} {Q : Rs → HS → Prop} {X16 : Ct} (EN : EX x E) (G : Gd x cX12_commands "ChantRules$Reader" yX12_commands 2 (Option.some (Jvm.ClassFile.FieldType.object "java/util/LinkedList")) Q) (hF : x.1.2.2.2.frames = 12 ∧ x.1.2.2.2.locals = 285) (hC : x.2.2.2.2.2 = (fun _ => false)) (hxt : (∀ z ∈ x.2.2.1.2.1.exceptionTable.toList, False)) (h16 : Snd x 16 X16) : Snd x 16 (bX12_commands_16 E Q X16) := by
  unfold bX12_commands_16
  refine s_aload_n rfl G.b dX12_commands_16 ?_
  refine s_bipush (by decide) G.b dX12_commands_17 ?_
  refine s_callV G (mX12_takes EN) q1625 q1627 (sel_cons (r := (RX12, TX12, 2)) (by decide) rfl qs27 (sel_nil)) q107 q1628 nmk_196 (rm_of hF (Nat.le_of_ble_eq_true rfl) (Nat.le_of_ble_eq_true rfl)) dX12_commands_19 ?_ (sx_out G (fun z hz => (hxt z hz).elim))
  refine s_ifeq (tgt := 36) G.b dX12_commands_22 (by decide) (tX12_commands_36 EN G hF hC hxt h16) ?_
  refine s_aload_n rfl G.b dX12_commands_25 ?_
  refine s_aload_n rfl G.b dX12_commands_26 ?_
  refine s_callV G (mX12_command EN) q1492 q1494 (sel_cons (r := (RX12, TX12, 2)) (by decide) rfl qs22 (sel_nil)) q107 q1495 nmk_217 (rm_of hF (Nat.le_of_ble_eq_true rfl) (Nat.le_of_ble_eq_true rfl)) dX12_commands_27 ?_ (sx_out G (fun z hz => (hxt z hz).elim))
  refine s_callV G (mJ19_addLast EN) q1640 q1641 (sel_cons (r := (RJ19, TJ19, 4)) (by decide) rfl q1642 (sel_nil)) q109 q1643 nmk_218 (rm_of hF (Nat.le_of_ble_eq_true rfl) (Nat.le_of_ble_eq_true rfl)) dX12_commands_30 ?_ (sx_out G (fun z hz => (hxt z hz).elim))
  exact s_goto (tgt := 16) G.b dX12_commands_33 (by decide) h16
set_option maxHeartbeats 4000000 in
theorem tX12_commands_0 {x : CX} {E : Nat → Value} {Q : Rs → HS → Prop} {X16 : Ct} (EN : EX x E) (G : Gd x cX12_commands "ChantRules$Reader" yX12_commands 2 (Option.some (Jvm.ClassFile.FieldType.object "java/util/LinkedList")) Q) (hF : x.1.2.2.2.frames = 12 ∧ x.1.2.2.2.locals = 285) (hC : x.2.2.2.2.2 = (fun _ => false)) (hxt : (∀ z ∈ x.2.2.1.2.1.exceptionTable.toList, False)) (h16 : Snd x 16 X16) : Snd x 0 (bX12_commands_0 E Q X16) := by
  unfold bX12_commands_0
  refine s_new (C := RJ19) (T0 := TJ19) (N := 4) G.b G.ow G.kn G.gr G.hts rfl (by decide) in_J19 q1472 q1473 q109 tyJ19 tyJ19_ok rfl dX12_commands_0 ?_
  refine s_dup G.b dX12_commands_3 ?_
  refine s_callI G (mJ19_init EN) rfl q1474 q1475 q109 q1476 nmk_219 (rm_of hF (Nat.le_of_ble_eq_true rfl) (Nat.le_of_ble_eq_true rfl)) dX12_commands_4 ?_ (sx_out G (fun z hz => (hxt z hz).elim))
  refine s_astore_n rfl G.b (by rw [G.nl]; decide) (fun _ _ => by rw [hC]) dX12_commands_7 ?_
  refine s_aload_n rfl G.b dX12_commands_8 ?_
  refine s_aload_n rfl G.b dX12_commands_9 ?_
  refine s_callV G (mX12_command EN) q1492 q1494 (sel_cons (r := (RX12, TX12, 2)) (by decide) rfl qs22 (sel_nil)) q107 q1495 nmk_217 (rm_of hF (Nat.le_of_ble_eq_true rfl) (Nat.le_of_ble_eq_true rfl)) dX12_commands_10 ?_ (sx_out G (fun z hz => (hxt z hz).elim))
  refine s_callV G (mJ19_addLast EN) q1640 q1641 (sel_cons (r := (RJ19, TJ19, 4)) (by decide) rfl q1642 (sel_nil)) q109 q1643 nmk_218 (rm_of hF (Nat.le_of_ble_eq_true rfl) (Nat.le_of_ble_eq_true rfl)) dX12_commands_13 ?_ (sx_out G (fun z hz => (hxt z hz).elim))
  exact h16
set_option maxHeartbeats 4000000 in
theorem mX12_commands {l : Launch} {D : DE} {s0 : State} {E : Nat → Value} (EN : EV l D s0 E) : rMet l D s0 yX12_commands (ws_ yX12_commands cX12_commands 2 (Option.some (Jvm.ClassFile.FieldType.object "java/util/LinkedList"))) 12 285 (wX12_commands E) := by
  refine body_met (fun _ => false) EN.kn (fun w h => h) (by decide +kernel) rfl (fun av h Q hw => ?_) ?_
  · unfold wX12_commands at hw
    split at hw
    · exact Nat.le_of_ble_eq_true rfl
    · exact hw.elim
  · intro p e s m below meth c av h Q hxt G hw
    unfold wX12_commands at hw
    split at hw
    · exact tX12_commands_0 EN G ⟨rfl, rfl⟩ rfl hxt (fun _ _ _ h => h) _ _ _ (hw (AW _ 16) (tX12_commands_16 EN G ⟨rfl, rfl⟩ rfl hxt (fun _ _ _ h => h)))
    · exact hw.elim
/-! java/util/LinkedList.size()I (J19_size) -/
def bJ19_size_0 (E : Nat → Value) (Q : Rs → HS → Prop) : Ct :=
  o_aload 0 <|
  o_getf [14] 1 <|
  o_ireturn .int Q
def wJ19_size (E : Nat → Value) : Wp := fun av h Q => match av with
  | [a0] => bJ19_size_0 E Q [a0] [] h
  | _ => False
set_option maxHeartbeats 4000000 in
theorem tJ19_size_0 {x : CX} {E : Nat → Value} {Q : Rs → HS → Prop} (EN : EX x E) (G : Gd x cJ19_size "java/util/LinkedList" yJ19_size 1 (Option.some Jvm.ClassFile.FieldType.int) Q) (hF : x.1.2.2.2.frames = 2 ∧ x.1.2.2.2.locals = 64) (hC : x.2.2.2.2.2 = (fun _ => false)) (hxt : (∀ z ∈ x.2.2.1.2.1.exceptionTable.toList, False)) : Snd x 0 (bJ19_size_0 E Q) := by
  unfold bJ19_size_0
  refine s_aload_n rfl G.b dJ19_size_0 ?_
  refine s_getf G.b G.ow G.kn (G.hts _ q1481) (fun _ h => h) fa_67 dJ19_size_1 ?_
  exact s_ireturn G dJ19_size_4
set_option maxHeartbeats 4000000 in
theorem mJ19_size {l : Launch} {D : DE} {s0 : State} {E : Nat → Value} (EN : EV l D s0 E) : rMet l D s0 yJ19_size (ws_ yJ19_size cJ19_size 1 (Option.some Jvm.ClassFile.FieldType.int)) 2 64 (wJ19_size E) := by
  refine body_met (fun _ => false) EN.kn (fun w h => h) (by decide +kernel) rfl (fun av h Q hw => ?_) ?_
  · unfold wJ19_size at hw
    split at hw
    · exact Nat.le_of_ble_eq_true rfl
    · exact hw.elim
  · intro p e s m below meth c av h Q hxt G hw
    unfold wJ19_size at hw
    split at hw
    · exact tJ19_size_0 EN G ⟨rfl, rfl⟩ rfl hxt _ _ _ hw
    · exact hw.elim
/-! java/util/AbstractCollection.isEmpty()Z (J0_isEmpty) -/
theorem nmk_220 : nm_ok ⟨"java/util/AbstractCollection", "size", "()I"⟩ 0 := ⟨by decide +kernel, by decide +kernel, by decide +kernel⟩
def bJ0_isEmpty_12 (E : Nat → Value) (Q : Rs → HS → Prop) : Ct :=
  o_ireturn .boolean Q
def bJ0_isEmpty_11 (E : Nat → Value) (Q : Rs → HS → Prop) : Ct :=
  o_push (.int 0) <|
  (bJ0_isEmpty_12 E Q)
def bJ0_isEmpty_4 (E : Nat → Value) (Q : Rs → HS → Prop) : Ct :=
  o_ifne (bJ0_isEmpty_11 E Q) <|
  o_push (.int 1) <|
  (bJ0_isEmpty_12 E Q)
def bJ0_isEmpty_0 (E : Nat → Value) (Q : Rs → HS → Prop) : Ct :=
  o_aload 0 <|
  o_vsel 1 [14] (o_callV [14] 1 (wJ19_size E) (x_out Q) (bJ0_isEmpty_4 E Q)) (o_vsel 1 [15] (o_callV [15] 1 (wJ2_size E) (x_out Q) (bJ0_isEmpty_4 E Q)) (o_callV [17] 1 (wJ3_size E) (x_out Q) (bJ0_isEmpty_4 E Q)))
def wJ0_isEmpty (E : Nat → Value) : Wp := fun av h Q => match av with
  | [a0] => bJ0_isEmpty_0 E Q [a0] [] h
  | _ => False
set_option maxHeartbeats 4000000 in
theorem tJ0_isEmpty_12 {x : CX} {E : Nat → Value} {Q : Rs → HS → Prop} (EN : EX x E) (G : Gd x cJ0_isEmpty "java/util/AbstractCollection" yJ0_isEmpty 1 (Option.some Jvm.ClassFile.FieldType.boolean) Q) (hF : x.1.2.2.2.frames = 4 ∧ x.1.2.2.2.locals = 106) (hC : x.2.2.2.2.2 = (fun _ => false)) (hxt : (∀ z ∈ x.2.2.1.2.1.exceptionTable.toList, False)) : Snd x 12 (bJ0_isEmpty_12 E Q) := by
  unfold bJ0_isEmpty_12
  exact s_ireturn G dJ0_isEmpty_12
set_option maxHeartbeats 4000000 in
theorem tJ0_isEmpty_11 {x : CX} {E : Nat → Value} {Q : Rs → HS → Prop} (EN : EX x E) (G : Gd x cJ0_isEmpty "java/util/AbstractCollection" yJ0_isEmpty 1 (Option.some Jvm.ClassFile.FieldType.boolean) Q) (hF : x.1.2.2.2.frames = 4 ∧ x.1.2.2.2.locals = 106) (hC : x.2.2.2.2.2 = (fun _ => false)) (hxt : (∀ z ∈ x.2.2.1.2.1.exceptionTable.toList, False)) : Snd x 11 (bJ0_isEmpty_11 E Q) := by
  unfold bJ0_isEmpty_11
  refine s_iconst (by decide) G.b dJ0_isEmpty_11 ?_
  exact (tJ0_isEmpty_12 EN G hF hC hxt)
set_option maxHeartbeats 4000000 in
theorem tJ0_isEmpty_4 {x : CX} {E : Nat → Value} {Q : Rs → HS → Prop} (EN : EX x E) (G : Gd x cJ0_isEmpty "java/util/AbstractCollection" yJ0_isEmpty 1 (Option.some Jvm.ClassFile.FieldType.boolean) Q) (hF : x.1.2.2.2.frames = 4 ∧ x.1.2.2.2.locals = 106) (hC : x.2.2.2.2.2 = (fun _ => false)) (hxt : (∀ z ∈ x.2.2.1.2.1.exceptionTable.toList, False)) : Snd x 4 (bJ0_isEmpty_4 E Q) := by
  unfold bJ0_isEmpty_4
  refine s_ifne (tgt := 11) G.b dJ0_isEmpty_4 (by decide) (tJ0_isEmpty_11 EN G hF hC hxt) ?_
  refine s_iconst (by decide) G.b dJ0_isEmpty_7 ?_
  exact s_goto (tgt := 12) G.b dJ0_isEmpty_8 (by decide) (tJ0_isEmpty_12 EN G hF hC hxt)
set_option maxHeartbeats 4000000 in
theorem tJ0_isEmpty_0 {x : CX} {E : Nat → Value} {Q : Rs → HS → Prop} (EN : EX x E) (G : Gd x cJ0_isEmpty "java/util/AbstractCollection" yJ0_isEmpty 1 (Option.some Jvm.ClassFile.FieldType.boolean) Q) (hF : x.1.2.2.2.frames = 4 ∧ x.1.2.2.2.locals = 106) (hC : x.2.2.2.2.2 = (fun _ => false)) (hxt : (∀ z ∈ x.2.2.1.2.1.exceptionTable.toList, False)) : Snd x 0 (bJ0_isEmpty_0 E Q) := by
  unfold bJ0_isEmpty_0
  refine s_aload_n rfl G.b dJ0_isEmpty_0 ?_
  exact (s_vsel (s_callVU (w := ⟨"java/util/AbstractCollection", "size", "()I"⟩) (owner := "java/util/AbstractCollection") G (mJ19_size EN) q1673 q1675 (va_Decl.abs (va_Nw.warmD G.warm (EN.nw q1674 rfl))) (by decide +kernel) q1679 (sel_cons (r := (RJ19, TJ19, 4)) (by decide) rfl q1678 (sel_nil)) q109 q1680 nmk_220 (rm_of hF (Nat.le_of_ble_eq_true rfl) (Nat.le_of_ble_eq_true rfl)) dJ0_isEmpty_1 (tJ0_isEmpty_4 EN G hF hC hxt) (sx_out G (fun z hz => (hxt z hz).elim)) ) (s_vsel (s_callVU (w := ⟨"java/util/AbstractCollection", "size", "()I"⟩) (owner := "java/util/AbstractCollection") G (mJ2_size EN) q1673 q1675 (va_Decl.abs (va_Nw.warmD G.warm (EN.nw q1674 rfl))) (by decide +kernel) q689 (sel_cons (r := (RJ2, TJ2, 3)) (by decide) rfl q1677 (sel_nil)) q82 q691 nmk_220 (rm_of hF (Nat.le_of_ble_eq_true rfl) (Nat.le_of_ble_eq_true rfl)) dJ0_isEmpty_1 (tJ0_isEmpty_4 EN G hF hC hxt) (sx_out G (fun z hz => (hxt z hz).elim)) ) (s_callVU (w := ⟨"java/util/AbstractCollection", "size", "()I"⟩) (owner := "java/util/AbstractCollection") G (mJ3_size EN) q1673 q1675 (va_Decl.abs (va_Nw.warmD G.warm (EN.nw q1674 rfl))) (by decide +kernel) q571 (sel_cons (r := (RJ3, TJ3, 3)) (by decide) rfl q1676 (sel_nil)) q83 q573 nmk_220 (rm_of hF (Nat.le_of_ble_eq_true rfl) (Nat.le_of_ble_eq_true rfl)) dJ0_isEmpty_1 (tJ0_isEmpty_4 EN G hF hC hxt) (sx_out G (fun z hz => (hxt z hz).elim)) )))
set_option maxHeartbeats 4000000 in
theorem mJ0_isEmpty {l : Launch} {D : DE} {s0 : State} {E : Nat → Value} (EN : EV l D s0 E) : rMet l D s0 yJ0_isEmpty (ws_ yJ0_isEmpty cJ0_isEmpty 1 (Option.some Jvm.ClassFile.FieldType.boolean)) 4 106 (wJ0_isEmpty E) := by
  refine body_met (fun _ => false) EN.kn (fun w h => h) (by decide +kernel) rfl (fun av h Q hw => ?_) ?_
  · unfold wJ0_isEmpty at hw
    split at hw
    · exact Nat.le_of_ble_eq_true rfl
    · exact hw.elim
  · intro p e s m below meth c av h Q hxt G hw
    unfold wJ0_isEmpty at hw
    split at hw
    · exact tJ0_isEmpty_0 EN G ⟨rfl, rfl⟩ rfl hxt _ _ _ hw
    · exact hw.elim
/-! java/util/LinkedList.unlinkFirst(Ljava/util/LinkedList$Node;)Ljava/lang/Object; (J19_unlinkFirst) -/
def bJ19_unlinkFirst_42 (E : Nat → Value) (Q : Rs → HS → Prop) : Ct :=
  o_aload 0 <|
  o_dup <|
  o_getf [14] 1 <|
  o_push (.int 1) <|
  o_isub <|
  o_putf [14] 1 .int <|
  o_aload 0 <|
  o_dup <|
  o_getf [14, 15] 0 <|
  o_push (.int 1) <|
  o_iadd <|
  o_putf [14, 15] 0 .int <|
  o_aload 2 <|
  o_areturn Q
def bJ19_unlinkFirst_37 (E : Nat → Value) (Q : Rs → HS → Prop) : Ct :=
  o_aload 3 <|
  o_push .null <|
  o_putf [16] 2 (.object "java/util/LinkedList$Node") <|
  (bJ19_unlinkFirst_42 E Q)
def bJ19_unlinkFirst_0 (E : Nat → Value) (Q : Rs → HS → Prop) : Ct :=
  o_aload 1 <|
  o_getf [16] 0 <|
  o_astore 2 <|
  o_aload 1 <|
  o_getf [16] 1 <|
  o_astore 3 <|
  o_aload 1 <|
  o_push .null <|
  o_putf [16] 0 (.object "java/lang/Object") <|
  o_aload 1 <|
  o_push .null <|
  o_putf [16] 1 (.object "java/util/LinkedList$Node") <|
  o_aload 0 <|
  o_aload 3 <|
  o_putf [14] 2 (.object "java/util/LinkedList$Node") <|
  o_aload 3 <|
  o_ifnonnull (bJ19_unlinkFirst_37 E Q) <|
  o_aload 0 <|
  o_push .null <|
  o_putf [14] 3 (.object "java/util/LinkedList$Node") <|
  (bJ19_unlinkFirst_42 E Q)
def wJ19_unlinkFirst (E : Nat → Value) : Wp := fun av h Q => match av with
  | [a0, a1] => bJ19_unlinkFirst_0 E Q [a0, a1, jk, jk] [] h
  | _ => False
set_option maxHeartbeats 4000000 in
theorem tJ19_unlinkFirst_42 {x : CX} {E : Nat → Value} {Q : Rs → HS → Prop} (EN : EX x E) (G : Gd x cJ19_unlinkFirst "java/util/LinkedList" yJ19_unlinkFirst 4 (Option.some (Jvm.ClassFile.FieldType.object "java/lang/Object")) Q) (hF : x.1.2.2.2.frames = 2 ∧ x.1.2.2.2.locals = 64) (hC : x.2.2.2.2.2 = (fun _ => false)) (hxt : (∀ z ∈ x.2.2.1.2.1.exceptionTable.toList, False)) : Snd x 42 (bJ19_unlinkFirst_42 E Q) := by
  unfold bJ19_unlinkFirst_42
  refine s_aload_n rfl G.b dJ19_unlinkFirst_42 ?_
  refine s_dup G.b dJ19_unlinkFirst_43 ?_
  refine s_getf G.b G.ow G.kn (G.hts _ q1481) (fun _ h => h) fa_67 dJ19_unlinkFirst_44 ?_
  refine s_iconst (by decide) G.b dJ19_unlinkFirst_47 ?_
  refine s_isub G.b dJ19_unlinkFirst_48 ?_
  refine s_putf G.b G.ow G.kn (G.hts _ q1481) (fun _ h => h) fa_67 (la_cons (r := (RJ19, TJ19, 4)) G.hts (by decide) rfl q1484 (la_nil)) (by decide +kernel) dJ19_unlinkFirst_49 ?_
  refine s_aload_n rfl G.b dJ19_unlinkFirst_52 ?_
  refine s_dup G.b dJ19_unlinkFirst_53 ?_
  refine s_getf G.b G.ow G.kn (G.hts _ q165) (u_same (G.hts _ q166)) fa_0 dJ19_unlinkFirst_54 ?_
  refine s_iconst (by decide) G.b dJ19_unlinkFirst_57 ?_
  refine s_iadd G.b dJ19_unlinkFirst_58 ?_
  refine s_putf G.b G.ow G.kn (G.hts _ q165) (u_same (G.hts _ q166)) fa_0 (la_cons (r := (RJ19, TJ19, 4)) G.hts (by decide) rfl q1490 (la_cons (r := (RJ2, TJ2, 3)) G.hts (by decide) rfl q172 (la_nil))) (by decide +kernel) dJ19_unlinkFirst_59 ?_
  refine s_aload_n rfl G.b dJ19_unlinkFirst_62 ?_
  exact s_areturn (Or.inl ⟨_, rfl⟩) G dJ19_unlinkFirst_63
set_option maxHeartbeats 4000000 in
theorem tJ19_unlinkFirst_37 {x : CX} {E : Nat → Value} {Q : Rs → HS → Prop} (EN : EX x E) (G : Gd x cJ19_unlinkFirst "java/util/LinkedList" yJ19_unlinkFirst 4 (Option.some (Jvm.ClassFile.FieldType.object "java/lang/Object")) Q) (hF : x.1.2.2.2.frames = 2 ∧ x.1.2.2.2.locals = 64) (hC : x.2.2.2.2.2 = (fun _ => false)) (hxt : (∀ z ∈ x.2.2.1.2.1.exceptionTable.toList, False)) : Snd x 37 (bJ19_unlinkFirst_37 E Q) := by
  unfold bJ19_unlinkFirst_37
  refine s_aload_n rfl G.b dJ19_unlinkFirst_37 ?_
  refine s_null G.b dJ19_unlinkFirst_38 ?_
  refine s_putf G.b G.ow G.kn (G.hts _ q1659) (fun _ h => h) fa_70 (la_cons (r := (RJ21, TJ21, 3)) G.hts (by decide) rfl q1664 (la_nil)) (by decide +kernel) dJ19_unlinkFirst_39 ?_
  exact (tJ19_unlinkFirst_42 EN G hF hC hxt)
set_option maxHeartbeats 4000000 in
theorem tJ19_unlinkFirst_0 {x : CX} {E : Nat → Value} {Q : Rs → HS → Prop} (EN : EX x E) (G : Gd x cJ19_unlinkFirst "java/util/LinkedList" yJ19_unlinkFirst 4 (Option.some (Jvm.ClassFile.FieldType.object "java/lang/Object")) Q) (hF : x.1.2.2.2.frames = 2 ∧ x.1.2.2.2.locals = 64) (hC : x.2.2.2.2.2 = (fun _ => false)) (hxt : (∀ z ∈ x.2.2.1.2.1.exceptionTable.toList, False)) : Snd x 0 (bJ19_unlinkFirst_0 E Q) := by
  unfold bJ19_unlinkFirst_0
  refine s_aload_n rfl G.b dJ19_unlinkFirst_0 ?_
  refine s_getf G.b G.ow G.kn (G.hts _ q1655) (fun _ h => h) fa_68 dJ19_unlinkFirst_1 ?_
  refine s_astore_n rfl G.b (by rw [G.nl]; decide) (fun _ _ => by rw [hC]) dJ19_unlinkFirst_4 ?_
  refine s_aload_n rfl G.b dJ19_unlinkFirst_5 ?_
  refine s_getf G.b G.ow G.kn (G.hts _ q1657) (fun _ h => h) fa_69 dJ19_unlinkFirst_6 ?_
  refine s_astore_n rfl G.b (by rw [G.nl]; decide) (fun _ _ => by rw [hC]) dJ19_unlinkFirst_9 ?_
  refine s_aload_n rfl G.b dJ19_unlinkFirst_10 ?_
  refine s_null G.b dJ19_unlinkFirst_11 ?_
  refine s_putf G.b G.ow G.kn (G.hts _ q1655) (fun _ h => h) fa_68 (la_cons (r := (RJ21, TJ21, 3)) G.hts (by decide) rfl q1660 (la_nil)) (by decide +kernel) dJ19_unlinkFirst_12 ?_
  refine s_aload_n rfl G.b dJ19_unlinkFirst_15 ?_
  refine s_null G.b dJ19_unlinkFirst_16 ?_
  refine s_putf G.b G.ow G.kn (G.hts _ q1657) (fun _ h => h) fa_69 (la_cons (r := (RJ21, TJ21, 3)) G.hts (by decide) rfl q1662 (la_nil)) (by decide +kernel) dJ19_unlinkFirst_17 ?_
  refine s_aload_n rfl G.b dJ19_unlinkFirst_20 ?_
  refine s_aload_n rfl G.b dJ19_unlinkFirst_21 ?_
  refine s_putf G.b G.ow G.kn (G.hts _ q1482) (fun _ h => h) fa_72 (la_cons (r := (RJ19, TJ19, 4)) G.hts (by decide) rfl q1486 (la_nil)) (by decide +kernel) dJ19_unlinkFirst_22 ?_
  refine s_aload_n rfl G.b dJ19_unlinkFirst_25 ?_
  refine s_ifnonnull (tgt := 37) G.b dJ19_unlinkFirst_26 (by decide) (tJ19_unlinkFirst_37 EN G hF hC hxt) ?_
  refine s_aload_n rfl G.b dJ19_unlinkFirst_29 ?_
  refine s_null G.b dJ19_unlinkFirst_30 ?_
  refine s_putf G.b G.ow G.kn (G.hts _ q1483) (fun _ h => h) fa_71 (la_cons (r := (RJ19, TJ19, 4)) G.hts (by decide) rfl q1488 (la_nil)) (by decide +kernel) dJ19_unlinkFirst_31 ?_
  exact s_goto (tgt := 42) G.b dJ19_unlinkFirst_34 (by decide) (tJ19_unlinkFirst_42 EN G hF hC hxt)
set_option maxHeartbeats 4000000 in
theorem mJ19_unlinkFirst {l : Launch} {D : DE} {s0 : State} {E : Nat → Value} (EN : EV l D s0 E) : rMet l D s0 yJ19_unlinkFirst (ws_ yJ19_unlinkFirst cJ19_unlinkFirst 4 (Option.some (Jvm.ClassFile.FieldType.object "java/lang/Object"))) 2 64 (wJ19_unlinkFirst E) := by
  refine body_met (fun _ => false) EN.kn (fun w h => h) (by decide +kernel) rfl (fun av h Q hw => ?_) ?_
  · unfold wJ19_unlinkFirst at hw
    split at hw
    · exact Nat.le_of_ble_eq_true rfl
    · exact hw.elim
  · intro p e s m below meth c av h Q hxt G hw
    unfold wJ19_unlinkFirst at hw
    split at hw
    · exact tJ19_unlinkFirst_0 EN G ⟨rfl, rfl⟩ rfl hxt _ _ _ hw
    · exact hw.elim
/-! java/util/LinkedList.removeFirst()Ljava/lang/Object; (J19_removeFirst) -/
theorem nmk_221 : nm_ok yJ19_unlinkFirst 1 := ⟨by decide +kernel, by decide +kernel, by decide +kernel⟩
def bJ19_removeFirst_17 (E : Nat → Value) (Q : Rs → HS → Prop) : Ct :=
  o_aload 0 <|
  o_aload 1 <|
  o_callV [14] 2 (wJ19_unlinkFirst E) (x_out Q) <|
  o_areturn Q
def bJ19_removeFirst_0 (E : Nat → Value) (Q : Rs → HS → Prop) : Ct :=
  o_aload 0 <|
  o_getf [14] 2 <|
  o_astore 1 <|
  o_aload 1 <|
  o_ifnonnull (bJ19_removeFirst_17 E Q) <|
  o_no
def wJ19_removeFirst (E : Nat → Value) : Wp := fun av h Q => match av with
  | [a0] => bJ19_removeFirst_0 E Q [a0, jk] [] h
  | _ => False
set_option maxHeartbeats 4000000 in
theorem tJ19_removeFirst_17 {x : CX} {E : Nat → Value} {Q : Rs → HS → Prop} (EN : EX x E) (G : Gd x cJ19_removeFirst "java/util/LinkedList" yJ19_removeFirst 2 (Option.some (Jvm.ClassFile.FieldType.object "java/lang/Object")) Q) (hF : x.1.2.2.2.frames = 3 ∧ x.1.2.2.2.locals = 87) (hC : x.2.2.2.2.2 = (fun _ => false)) (hxt : (∀ z ∈ x.2.2.1.2.1.exceptionTable.toList, False)) : Snd x 17 (bJ19_removeFirst_17 E Q) := by
  unfold bJ19_removeFirst_17
  refine s_aload_n rfl G.b dJ19_removeFirst_17 ?_
  refine s_aload_n rfl G.b dJ19_removeFirst_18 ?_
  refine s_callV G (mJ19_unlinkFirst EN) q1685 q1687 (sel_cons (r := (RJ19, TJ19, 4)) (by decide) rfl qs30 (sel_nil)) q109 q1688 nmk_221 (rm_of hF (Nat.le_of_ble_eq_true rfl) (Nat.le_of_ble_eq_true rfl)) dJ19_removeFirst_19 ?_ (sx_out G (fun z hz => (hxt z hz).elim))
  exact s_areturn (Or.inl ⟨_, rfl⟩) G dJ19_removeFirst_22
set_option maxHeartbeats 4000000 in
theorem tJ19_removeFirst_0 {x : CX} {E : Nat → Value} {Q : Rs → HS → Prop} (EN : EX x E) (G : Gd x cJ19_removeFirst "java/util/LinkedList" yJ19_removeFirst 2 (Option.some (Jvm.ClassFile.FieldType.object "java/lang/Object")) Q) (hF : x.1.2.2.2.frames = 3 ∧ x.1.2.2.2.locals = 87) (hC : x.2.2.2.2.2 = (fun _ => false)) (hxt : (∀ z ∈ x.2.2.1.2.1.exceptionTable.toList, False)) : Snd x 0 (bJ19_removeFirst_0 E Q) := by
  unfold bJ19_removeFirst_0
  refine s_aload_n rfl G.b dJ19_removeFirst_0 ?_
  refine s_getf G.b G.ow G.kn (G.hts _ q1482) (fun _ h => h) fa_72 dJ19_removeFirst_1 ?_
  refine s_astore_n rfl G.b (by rw [G.nl]; decide) (fun _ _ => by rw [hC]) dJ19_removeFirst_4 ?_
  refine s_aload_n rfl G.b dJ19_removeFirst_5 ?_
  refine s_ifnonnull (tgt := 17) G.b dJ19_removeFirst_6 (by decide) (tJ19_removeFirst_17 EN G hF hC hxt) ?_
  exact s_no
set_option maxHeartbeats 4000000 in
theorem mJ19_removeFirst {l : Launch} {D : DE} {s0 : State} {E : Nat → Value} (EN : EV l D s0 E) : rMet l D s0 yJ19_removeFirst (ws_ yJ19_removeFirst cJ19_removeFirst 2 (Option.some (Jvm.ClassFile.FieldType.object "java/lang/Object"))) 3 87 (wJ19_removeFirst E) := by
  refine body_met (fun _ => false) EN.kn (fun w h => h) (by decide +kernel) rfl (fun av h Q hw => ?_) ?_
  · unfold wJ19_removeFirst at hw
    split at hw
    · exact Nat.le_of_ble_eq_true rfl
    · exact hw.elim
  · intro p e s m below meth c av h Q hxt G hw
    unfold wJ19_removeFirst at hw
    split at hw
    · exact tJ19_removeFirst_0 EN G ⟨rfl, rfl⟩ rfl hxt _ _ _ hw
    · exact hw.elim
/-! ChantRules.run()I (X0_run) -/
theorem ct_10 : ∀ c ∈ [6], (c, "ChantRules$Wrong") ∈ ctab ∧ c < 23 := by decide +kernel
theorem ct_11 : ∀ c ∈ ([9] : List Nat), (c, "ChantRules$Wrong") ∈ ntab := by decide +kernel
theorem nmk_222 : nm_ok ⟨"java/util/LinkedList", "isEmpty", "()Z"⟩ 0 := ⟨by decide +kernel, by decide +kernel, by decide +kernel⟩
theorem nmk_223 : nm_ok yJ19_removeFirst 0 := ⟨by decide +kernel, by decide +kernel, by decide +kernel⟩
theorem ct_12 : ∀ c ∈ [7], (c, "ChantRules$Command") ∈ ctab := by decide +kernel
theorem nmk_224 : nm_ok yX0_carryOut 3 := ⟨by decide +kernel, by decide +kernel, by decide +kernel⟩
theorem nmk_225 : nm_ok yX12_init 1 := ⟨by decide +kernel, by decide +kernel, by decide +kernel⟩
theorem nmk_226 : nm_ok yX12_commands 0 := ⟨by decide +kernel, by decide +kernel, by decide +kernel⟩
def bX0_run_98 (E : Nat → Value) (Q : Rs → HS → Prop) (X22 : Ct) : Ct :=
  o_astore 1 <|
  o_aload 0 <|
  o_aload 1 <|
  o_callV [0] 2 (wX0_refused E) x_no <|
  o_istore 2 <|
  o_aload 0 <|
  o_getf [0] 8 <|
  o_push (.int 0) <|
  o_callV [18] 2 (wJ5_setLength E) (x_out Q) <|
  o_iload 2 <|
  o_ireturn .int Q
def bX0_run_78 (E : Nat → Value) (Q : Rs → HS → Prop) (X22 : Ct) : Ct :=
  o_astore 1 <|
  o_push (.int (-1000)) <|
  o_aload 1 <|
  o_getf [6] 6 <|
  o_isub <|
  o_istore 2 <|
  o_aload 0 <|
  o_getf [0] 8 <|
  o_push (.int 0) <|
  o_callV [18] 2 (wJ5_setLength E) (x_out Q) <|
  o_iload 2 <|
  o_ireturn .int Q
def bX0_run_47 (E : Nat → Value) (Q : Rs → HS → Prop) (X22 : Ct) : Ct :=
  o_aload 0 <|
  o_getf [0] 1 <|
  o_astore 4 <|
  o_aload 0 <|
  o_aload 2 <|
  o_putf [0] 1 (.object "ChantRules$Choir") <|
  o_aload 0 <|
  o_aload 4 <|
  o_iload 3 <|
  o_callV [0] 3 (wX0_changed E) (x_catch [6] (bX0_run_78 E Q X22) (x_catch [9] (bX0_run_98 E Q X22) x_no)) <|
  o_istore 5 <|
  o_aload 0 <|
  o_getf [0] 8 <|
  o_push (.int 0) <|
  o_callV [18] 2 (wJ5_setLength E) (x_out Q) <|
  o_iload 5 <|
  o_ireturn .int Q
def bX0_run_22 (E : Nat → Value) (Q : Rs → HS → Prop) (X22 : Ct) : Ct :=
  o_aload 1 <|
  o_callV [14] 1 (wJ0_isEmpty E) (x_catch [6] (bX0_run_78 E Q X22) (x_catch [9] (bX0_run_98 E Q X22) x_no)) <|
  o_ifne (bX0_run_47 E Q X22) <|
  o_aload 1 <|
  o_callV [14] 1 (wJ19_removeFirst E) (x_catch [6] (bX0_run_78 E Q X22) (x_catch [9] (bX0_run_98 E Q X22) x_no)) <|
  o_cast [7] <|
  o_aload 2 <|
  o_iload 3 <|
  o_call 3 (wX0_carryOut E) (x_catch [6] (bX0_run_78 E Q X22) (x_catch [9] (bX0_run_98 E Q X22) x_no)) <|
  o_iinc 3 1 <|
  X22
def bX0_run_0 (E : Nat → Value) (Q : Rs → HS → Prop) (X22 : Ct) : Ct :=
  o_new 5 2 [.int 0, .null] <|
  o_dup <|
  o_aload 0 <|
  o_callI 2 (wX12_init E) (x_catch [6] (bX0_run_78 E Q X22) (x_catch [9] (bX0_run_98 E Q X22) x_no)) <|
  o_callV [5] 1 (wX12_commands E) (x_catch [6] (bX0_run_78 E Q X22) (x_catch [9] (bX0_run_98 E Q X22) x_no)) <|
  o_astore 1 <|
  o_aload 0 <|
  o_getf [0] 1 <|
  o_callV [1] 1 (wX1_copy E) (x_catch [6] (bX0_run_78 E Q X22) (x_catch [9] (bX0_run_98 E Q X22) x_no)) <|
  o_astore 2 <|
  o_push (.int 0) <|
  o_istore 3 <|
  X22
def wX0_run (E : Nat → Value) : Wp := fun av h Q => match av with
  | [a0] => ∀ X22 : Ct, (∀ ls st h, bX0_run_22 E Q X22 ls st h → X22 ls st h) → bX0_run_0 E Q X22 [a0, jk, jk, jk, jk, jk, jk] [] h
  | _ => False
set_option maxHeartbeats 4000000 in
theorem tX0_run_98 {x : CX} {E : Nat → Value} {Q : Rs → HS → Prop} {X22 : Ct} (EN : EX x E) (G : Gd x cX0_run "ChantRules" yX0_run 7 (Option.some Jvm.ClassFile.FieldType.int) Q) (hF : x.1.2.2.2.frames = 19 ∧ x.1.2.2.2.locals = 442) (hC : x.2.2.2.2.2 = (fun _ => false)) (hxt : (x.2.2.1.2.1.exceptionTable.toList = tableOf [(0, 67, 78, 324), (0, 67, 98, 60), (0, 67, 115, 0), (78, 88, 115, 0), (98, 105, 115, 0), (115, 117, 115, 0)])) (h22 : Snd x 22 X22) : Snd x 98 (bX0_run_98 E Q X22) := by
  unfold bX0_run_98
  refine s_astore_n rfl G.b (by rw [G.nl]; decide) (fun _ _ => by rw [hC]) dX0_run_98 ?_
  refine s_aload_n rfl G.b dX0_run_99 ?_
  refine s_aload_n rfl G.b dX0_run_100 ?_
  refine s_callV G (mX0_refused EN) q588 q590 (sel_cons (r := (RX0, TX0, 10)) (by decide) rfl qs7 (sel_nil)) q76 q591 nmk_81 (rm_of hF (Nat.le_of_ble_eq_true rfl) (Nat.le_of_ble_eq_true rfl)) dX0_run_101 ?_ sx_no
  refine s_istore_n rfl G.b (by rw [G.nl]; decide) (fun _ _ => by rw [hC]) dX0_run_104 ?_
  refine s_aload_n rfl G.b dX0_run_105 ?_
  refine s_getf G.b G.ow G.kn (G.hts _ q307) (fun _ h => h) fa_13 dX0_run_106 ?_
  refine s_iconst (by decide) G.b dX0_run_109 ?_
  refine s_callV G (mJ5_setLength EN) q1430 q1431 (sel_cons (r := (RJ5, TJ5, 4)) (by decide) rfl q1432 (sel_nil)) q85 q1433 nmk_157 (rm_of hF (Nat.le_of_ble_eq_true rfl) (Nat.le_of_ble_eq_true rfl)) dX0_run_110 ?_ (sx_out G (by rw [hxt]; decide +kernel))
  refine s_iload_n rfl G.b dX0_run_113 ?_
  exact s_ireturn G dX0_run_114
set_option maxHeartbeats 4000000 in
theorem tX0_run_78 {x : CX} {E : Nat → Value} {Q : Rs → HS → Prop} {X22 : Ct} (EN : EX x E) (G : Gd x cX0_run "ChantRules" yX0_run 7 (Option.some Jvm.ClassFile.FieldType.int) Q) (hF : x.1.2.2.2.frames = 19 ∧ x.1.2.2.2.locals = 442) (hC : x.2.2.2.2.2 = (fun _ => false)) (hxt : (x.2.2.1.2.1.exceptionTable.toList = tableOf [(0, 67, 78, 324), (0, 67, 98, 60), (0, 67, 115, 0), (78, 88, 115, 0), (98, 105, 115, 0), (115, 117, 115, 0)])) (h22 : Snd x 22 X22) : Snd x 78 (bX0_run_78 E Q X22) := by
  unfold bX0_run_78
  refine s_astore_n rfl G.b (by rw [G.nl]; decide) (fun _ _ => by rw [hC]) dX0_run_78 ?_
  refine s_sipush (by decide) G.b dX0_run_79 ?_
  refine s_aload_n rfl G.b dX0_run_82 ?_
  refine s_getfN G.b G.ow G.kn (va_Nw.use rfl (va_Nw.warmF G.warm (EN.nw q1576 rfl))) (fun _ h => h) fa_65 dX0_run_83 ?_
  refine s_isub G.b dX0_run_86 ?_
  refine s_istore_n rfl G.b (by rw [G.nl]; decide) (fun _ _ => by rw [hC]) dX0_run_87 ?_
  refine s_aload_n rfl G.b dX0_run_88 ?_
  refine s_getf G.b G.ow G.kn (G.hts _ q307) (fun _ h => h) fa_13 dX0_run_89 ?_
  refine s_iconst (by decide) G.b dX0_run_92 ?_
  refine s_callV G (mJ5_setLength EN) q1430 q1431 (sel_cons (r := (RJ5, TJ5, 4)) (by decide) rfl q1432 (sel_nil)) q85 q1433 nmk_157 (rm_of hF (Nat.le_of_ble_eq_true rfl) (Nat.le_of_ble_eq_true rfl)) dX0_run_93 ?_ (sx_out G (by rw [hxt]; decide +kernel))
  refine s_iload_n rfl G.b dX0_run_96 ?_
  exact s_ireturn G dX0_run_97
set_option maxHeartbeats 4000000 in
theorem tX0_run_47 {x : CX} {E : Nat → Value} {Q : Rs → HS → Prop} {X22 : Ct} (EN : EX x E) (G : Gd x cX0_run "ChantRules" yX0_run 7 (Option.some Jvm.ClassFile.FieldType.int) Q) (hF : x.1.2.2.2.frames = 19 ∧ x.1.2.2.2.locals = 442) (hC : x.2.2.2.2.2 = (fun _ => false)) (hxt : (x.2.2.1.2.1.exceptionTable.toList = tableOf [(0, 67, 78, 324), (0, 67, 98, 60), (0, 67, 115, 0), (78, 88, 115, 0), (98, 105, 115, 0), (115, 117, 115, 0)])) (h22 : Snd x 22 X22) : Snd x 47 (bX0_run_47 E Q X22) := by
  unfold bX0_run_47
  refine s_aload_n rfl G.b dX0_run_47 ?_
  refine s_getf G.b G.ow G.kn (G.hts _ q300) (fun _ h => h) fa_11 dX0_run_48 ?_
  refine s_astore G.b (by rw [G.nl]; decide) (fun _ _ => by rw [hC]) dX0_run_51 ?_
  refine s_aload_n rfl G.b dX0_run_53 ?_
  refine s_aload_n rfl G.b dX0_run_54 ?_
  refine s_putf G.b G.ow G.kn (G.hts _ q300) (fun _ h => h) fa_11 (la_cons (r := (RX0, TX0, 10)) G.hts (by decide) rfl q312 (la_nil)) (by decide +kernel) dX0_run_55 ?_
  refine s_aload_n rfl G.b dX0_run_58 ?_
  refine s_aload G.b dX0_run_59 ?_
  refine s_iload_n rfl G.b dX0_run_61 ?_
  refine s_callV G (mX0_changed EN) q547 q549 (sel_cons (r := (RX0, TX0, 10)) (by decide) rfl qs4 (sel_nil)) q76 q550 nmk_85 (rm_of hF (Nat.le_of_ble_eq_true rfl) (Nat.le_of_ble_eq_true rfl)) dX0_run_62 ?_ (sx_catch G [] (⟨0, 67, 78, 324⟩ : ExceptionTableEntry) [(⟨0, 67, 98, 60⟩ : ExceptionTableEntry), (⟨0, 67, 115, 0⟩ : ExceptionTableEntry), (⟨78, 88, 115, 0⟩ : ExceptionTableEntry), (⟨98, 105, 115, 0⟩ : ExceptionTableEntry), (⟨115, 117, 115, 0⟩ : ExceptionTableEntry)] (by rw [hxt]; rfl) (fun w hw => nomatch hw) (by decide +kernel) (by decide) q1454 ct_10 (tX0_run_78 EN G hF hC hxt h22) (sx_catch G [(⟨0, 67, 78, 324⟩ : ExceptionTableEntry)] (⟨0, 67, 98, 60⟩ : ExceptionTableEntry) [(⟨0, 67, 115, 0⟩ : ExceptionTableEntry), (⟨78, 88, 115, 0⟩ : ExceptionTableEntry), (⟨98, 105, 115, 0⟩ : ExceptionTableEntry), (⟨115, 117, 115, 0⟩ : ExceptionTableEntry)] (by rw [hxt]; rfl) (fun w hw => by
      simp only [List.mem_cons, List.not_mem_nil, or_false] at hw
      subst hw
      exact Or.inr ⟨by decide, "ChantRules$Wrong", q1454, ct_11⟩) (by decide +kernel) (by decide) q335 ct_5 (tX0_run_98 EN G hF hC hxt h22) sx_no))
  refine s_istore G.b (by rw [G.nl]; decide) (fun _ _ => by rw [hC]) dX0_run_65 ?_
  refine s_aload_n rfl G.b dX0_run_67 ?_
  refine s_getf G.b G.ow G.kn (G.hts _ q307) (fun _ h => h) fa_13 dX0_run_68 ?_
  refine s_iconst (by decide) G.b dX0_run_71 ?_
  refine s_callV G (mJ5_setLength EN) q1430 q1431 (sel_cons (r := (RJ5, TJ5, 4)) (by decide) rfl q1432 (sel_nil)) q85 q1433 nmk_157 (rm_of hF (Nat.le_of_ble_eq_true rfl) (Nat.le_of_ble_eq_true rfl)) dX0_run_72 ?_ (sx_out G (by rw [hxt]; decide +kernel))
  refine s_iload G.b dX0_run_75 ?_
  exact s_ireturn G dX0_run_77
set_option maxHeartbeats 4000000 in
theorem tX0_run_22 {x : CX} {E : Nat → Value} {Q : Rs → HS → Prop} {X22 : Ct} (EN : EX x E) (G : Gd x cX0_run "ChantRules" yX0_run 7 (Option.some Jvm.ClassFile.FieldType.int) Q) (hF : x.1.2.2.2.frames = 19 ∧ x.1.2.2.2.locals = 442) (hC : x.2.2.2.2.2 = (fun _ => false)) (hxt : (x.2.2.1.2.1.exceptionTable.toList = tableOf [(0, 67, 78, 324), (0, 67, 98, 60), (0, 67, 115, 0), (78, 88, 115, 0), (98, 105, 115, 0), (115, 117, 115, 0)])) (h22 : Snd x 22 X22) : Snd x 22 (bX0_run_22 E Q X22) := by
  unfold bX0_run_22
  refine s_aload_n rfl G.b dX0_run_22 ?_
  refine s_callVU (w := ⟨"java/util/LinkedList", "isEmpty", "()Z"⟩) (owner := "java/util/AbstractCollection") G (mJ0_isEmpty EN) q1667 q1668 (va_Decl.of (G.hts _ q1671) (G.hts _ q1672)) (by decide +kernel) q1671 (sel_cons (r := (RJ19, TJ19, 4)) (by decide) rfl q1670 (sel_nil)) q80 q1672 nmk_222 (rm_of hF (Nat.le_of_ble_eq_true rfl) (Nat.le_of_ble_eq_true rfl)) dX0_run_23 ?_ (sx_catch G [] (⟨0, 67, 78, 324⟩ : ExceptionTableEntry) [(⟨0, 67, 98, 60⟩ : ExceptionTableEntry), (⟨0, 67, 115, 0⟩ : ExceptionTableEntry), (⟨78, 88, 115, 0⟩ : ExceptionTableEntry), (⟨98, 105, 115, 0⟩ : ExceptionTableEntry), (⟨115, 117, 115, 0⟩ : ExceptionTableEntry)] (by rw [hxt]; rfl) (fun w hw => nomatch hw) (by decide +kernel) (by decide) q1454 ct_10 (tX0_run_78 EN G hF hC hxt h22) (sx_catch G [(⟨0, 67, 78, 324⟩ : ExceptionTableEntry)] (⟨0, 67, 98, 60⟩ : ExceptionTableEntry) [(⟨0, 67, 115, 0⟩ : ExceptionTableEntry), (⟨78, 88, 115, 0⟩ : ExceptionTableEntry), (⟨98, 105, 115, 0⟩ : ExceptionTableEntry), (⟨115, 117, 115, 0⟩ : ExceptionTableEntry)] (by rw [hxt]; rfl) (fun w hw => by
      simp only [List.mem_cons, List.not_mem_nil, or_false] at hw
      subst hw
      exact Or.inr ⟨by decide, "ChantRules$Wrong", q1454, ct_11⟩) (by decide +kernel) (by decide) q335 ct_5 (tX0_run_98 EN G hF hC hxt h22) sx_no))
  refine s_ifne (tgt := 47) G.b dX0_run_26 (by decide) (tX0_run_47 EN G hF hC hxt h22) ?_
  refine s_aload_n rfl G.b dX0_run_29 ?_
  refine s_callV G (mJ19_removeFirst EN) q1681 q1682 (sel_cons (r := (RJ19, TJ19, 4)) (by decide) rfl q1683 (sel_nil)) q109 q1684 nmk_223 (rm_of hF (Nat.le_of_ble_eq_true rfl) (Nat.le_of_ble_eq_true rfl)) dX0_run_30 ?_ (sx_catch G [] (⟨0, 67, 78, 324⟩ : ExceptionTableEntry) [(⟨0, 67, 98, 60⟩ : ExceptionTableEntry), (⟨0, 67, 115, 0⟩ : ExceptionTableEntry), (⟨78, 88, 115, 0⟩ : ExceptionTableEntry), (⟨98, 105, 115, 0⟩ : ExceptionTableEntry), (⟨115, 117, 115, 0⟩ : ExceptionTableEntry)] (by rw [hxt]; rfl) (fun w hw => nomatch hw) (by decide +kernel) (by decide) q1454 ct_10 (tX0_run_78 EN G hF hC hxt h22) (sx_catch G [(⟨0, 67, 78, 324⟩ : ExceptionTableEntry)] (⟨0, 67, 98, 60⟩ : ExceptionTableEntry) [(⟨0, 67, 115, 0⟩ : ExceptionTableEntry), (⟨78, 88, 115, 0⟩ : ExceptionTableEntry), (⟨98, 105, 115, 0⟩ : ExceptionTableEntry), (⟨115, 117, 115, 0⟩ : ExceptionTableEntry)] (by rw [hxt]; rfl) (fun w hw => by
      simp only [List.mem_cons, List.not_mem_nil, or_false] at hw
      subst hw
      exact Or.inr ⟨by decide, "ChantRules$Wrong", q1454, ct_11⟩) (by decide +kernel) (by decide) q335 ct_5 (tX0_run_98 EN G hF hC hxt h22) sx_no))
  refine s_cast G.b G.ow G.kn G.hts q1689 ct_12 dX0_run_33 ?_
  refine s_aload_n rfl G.b dX0_run_36 ?_
  refine s_iload_n rfl G.b dX0_run_37 ?_
  refine s_callSX G (mX0_carryOut EN) q1690 q1691 q76 q1692 nmk_224 (rm_of hF (Nat.le_of_ble_eq_true rfl) (Nat.le_of_ble_eq_true rfl)) dX0_run_38 ?_ (sx_catch G [] (⟨0, 67, 78, 324⟩ : ExceptionTableEntry) [(⟨0, 67, 98, 60⟩ : ExceptionTableEntry), (⟨0, 67, 115, 0⟩ : ExceptionTableEntry), (⟨78, 88, 115, 0⟩ : ExceptionTableEntry), (⟨98, 105, 115, 0⟩ : ExceptionTableEntry), (⟨115, 117, 115, 0⟩ : ExceptionTableEntry)] (by rw [hxt]; rfl) (fun w hw => nomatch hw) (by decide +kernel) (by decide) q1454 ct_10 (tX0_run_78 EN G hF hC hxt h22) (sx_catch G [(⟨0, 67, 78, 324⟩ : ExceptionTableEntry)] (⟨0, 67, 98, 60⟩ : ExceptionTableEntry) [(⟨0, 67, 115, 0⟩ : ExceptionTableEntry), (⟨78, 88, 115, 0⟩ : ExceptionTableEntry), (⟨98, 105, 115, 0⟩ : ExceptionTableEntry), (⟨115, 117, 115, 0⟩ : ExceptionTableEntry)] (by rw [hxt]; rfl) (fun w hw => by
      simp only [List.mem_cons, List.not_mem_nil, or_false] at hw
      subst hw
      exact Or.inr ⟨by decide, "ChantRules$Wrong", q1454, ct_11⟩) (by decide +kernel) (by decide) q335 ct_5 (tX0_run_98 EN G hF hC hxt h22) sx_no))
  refine s_iinc (by decide) G.b (by rw [G.nl]; decide) (fun _ _ => by rw [hC]) dX0_run_41 ?_
  exact s_goto (tgt := 22) G.b dX0_run_44 (by decide) h22
set_option maxHeartbeats 4000000 in
theorem tX0_run_0 {x : CX} {E : Nat → Value} {Q : Rs → HS → Prop} {X22 : Ct} (EN : EX x E) (G : Gd x cX0_run "ChantRules" yX0_run 7 (Option.some Jvm.ClassFile.FieldType.int) Q) (hF : x.1.2.2.2.frames = 19 ∧ x.1.2.2.2.locals = 442) (hC : x.2.2.2.2.2 = (fun _ => false)) (hxt : (x.2.2.1.2.1.exceptionTable.toList = tableOf [(0, 67, 78, 324), (0, 67, 98, 60), (0, 67, 115, 0), (78, 88, 115, 0), (98, 105, 115, 0), (115, 117, 115, 0)])) (h22 : Snd x 22 X22) : Snd x 0 (bX0_run_0 E Q X22) := by
  unfold bX0_run_0
  refine s_new (C := RX12) (T0 := TX12) (N := 2) G.b G.ow G.kn G.gr G.hts rfl (by decide) in_X12 q1455 q1456 q107 tyX12 tyX12_ok rfl dX0_run_0 ?_
  refine s_dup G.b dX0_run_3 ?_
  refine s_aload_n rfl G.b dX0_run_4 ?_
  refine s_callIN G (mX12_init EN) rfl (va_Nw.use rfl (va_Nw.warmM G.warm (EN.nw q1457 rfl))) q1458 q107 q1459 nmk_225 (rm_of hF (Nat.le_of_ble_eq_true rfl) (Nat.le_of_ble_eq_true rfl)) dX0_run_5 ?_ (sx_catch G [] (⟨0, 67, 78, 324⟩ : ExceptionTableEntry) [(⟨0, 67, 98, 60⟩ : ExceptionTableEntry), (⟨0, 67, 115, 0⟩ : ExceptionTableEntry), (⟨78, 88, 115, 0⟩ : ExceptionTableEntry), (⟨98, 105, 115, 0⟩ : ExceptionTableEntry), (⟨115, 117, 115, 0⟩ : ExceptionTableEntry)] (by rw [hxt]; rfl) (fun w hw => nomatch hw) (by decide +kernel) (by decide) q1454 ct_10 (tX0_run_78 EN G hF hC hxt h22) (sx_catch G [(⟨0, 67, 78, 324⟩ : ExceptionTableEntry)] (⟨0, 67, 98, 60⟩ : ExceptionTableEntry) [(⟨0, 67, 115, 0⟩ : ExceptionTableEntry), (⟨78, 88, 115, 0⟩ : ExceptionTableEntry), (⟨98, 105, 115, 0⟩ : ExceptionTableEntry), (⟨115, 117, 115, 0⟩ : ExceptionTableEntry)] (by rw [hxt]; rfl) (fun w hw => by
      simp only [List.mem_cons, List.not_mem_nil, or_false] at hw
      subst hw
      exact Or.inr ⟨by decide, "ChantRules$Wrong", q1454, ct_11⟩) (by decide +kernel) (by decide) q335 ct_5 (tX0_run_98 EN G hF hC hxt h22) sx_no))
  refine s_callV G (mX12_commands EN) q1468 q1469 (sel_cons (r := (RX12, TX12, 2)) (by decide) rfl q1470 (sel_nil)) q107 q1471 nmk_226 (rm_of hF (Nat.le_of_ble_eq_true rfl) (Nat.le_of_ble_eq_true rfl)) dX0_run_8 ?_ (sx_catch G [] (⟨0, 67, 78, 324⟩ : ExceptionTableEntry) [(⟨0, 67, 98, 60⟩ : ExceptionTableEntry), (⟨0, 67, 115, 0⟩ : ExceptionTableEntry), (⟨78, 88, 115, 0⟩ : ExceptionTableEntry), (⟨98, 105, 115, 0⟩ : ExceptionTableEntry), (⟨115, 117, 115, 0⟩ : ExceptionTableEntry)] (by rw [hxt]; rfl) (fun w hw => nomatch hw) (by decide +kernel) (by decide) q1454 ct_10 (tX0_run_78 EN G hF hC hxt h22) (sx_catch G [(⟨0, 67, 78, 324⟩ : ExceptionTableEntry)] (⟨0, 67, 98, 60⟩ : ExceptionTableEntry) [(⟨0, 67, 115, 0⟩ : ExceptionTableEntry), (⟨78, 88, 115, 0⟩ : ExceptionTableEntry), (⟨98, 105, 115, 0⟩ : ExceptionTableEntry), (⟨115, 117, 115, 0⟩ : ExceptionTableEntry)] (by rw [hxt]; rfl) (fun w hw => by
      simp only [List.mem_cons, List.not_mem_nil, or_false] at hw
      subst hw
      exact Or.inr ⟨by decide, "ChantRules$Wrong", q1454, ct_11⟩) (by decide +kernel) (by decide) q335 ct_5 (tX0_run_98 EN G hF hC hxt h22) sx_no))
  refine s_astore_n rfl G.b (by rw [G.nl]; decide) (fun _ _ => by rw [hC]) dX0_run_11 ?_
  refine s_aload_n rfl G.b dX0_run_12 ?_
  refine s_getf G.b G.ow G.kn (G.hts _ q300) (fun _ h => h) fa_11 dX0_run_13 ?_
  refine s_callV G (mX1_copy EN) q342 q343 (sel_cons (r := (RX1, TX1, 4)) (by decide) rfl q344 (sel_nil)) q77 q345 nmk_82 (rm_of hF (Nat.le_of_ble_eq_true rfl) (Nat.le_of_ble_eq_true rfl)) dX0_run_16 ?_ (sx_catch G [] (⟨0, 67, 78, 324⟩ : ExceptionTableEntry) [(⟨0, 67, 98, 60⟩ : ExceptionTableEntry), (⟨0, 67, 115, 0⟩ : ExceptionTableEntry), (⟨78, 88, 115, 0⟩ : ExceptionTableEntry), (⟨98, 105, 115, 0⟩ : ExceptionTableEntry), (⟨115, 117, 115, 0⟩ : ExceptionTableEntry)] (by rw [hxt]; rfl) (fun w hw => nomatch hw) (by decide +kernel) (by decide) q1454 ct_10 (tX0_run_78 EN G hF hC hxt h22) (sx_catch G [(⟨0, 67, 78, 324⟩ : ExceptionTableEntry)] (⟨0, 67, 98, 60⟩ : ExceptionTableEntry) [(⟨0, 67, 115, 0⟩ : ExceptionTableEntry), (⟨78, 88, 115, 0⟩ : ExceptionTableEntry), (⟨98, 105, 115, 0⟩ : ExceptionTableEntry), (⟨115, 117, 115, 0⟩ : ExceptionTableEntry)] (by rw [hxt]; rfl) (fun w hw => by
      simp only [List.mem_cons, List.not_mem_nil, or_false] at hw
      subst hw
      exact Or.inr ⟨by decide, "ChantRules$Wrong", q1454, ct_11⟩) (by decide +kernel) (by decide) q335 ct_5 (tX0_run_98 EN G hF hC hxt h22) sx_no))
  refine s_astore_n rfl G.b (by rw [G.nl]; decide) (fun _ _ => by rw [hC]) dX0_run_19 ?_
  refine s_iconst (by decide) G.b dX0_run_20 ?_
  refine s_istore_n rfl G.b (by rw [G.nl]; decide) (fun _ _ => by rw [hC]) dX0_run_21 ?_
  exact h22
set_option maxHeartbeats 4000000 in
theorem mX0_run {l : Launch} {D : DE} {s0 : State} {E : Nat → Value} (EN : EV l D s0 E) : rMet l D s0 yX0_run (wsW_ yX0_run cX0_run 7 (Option.some Jvm.ClassFile.FieldType.int) [(0, 67, 78, 324), (0, 67, 98, 60), (0, 67, 115, 0), (78, 88, 115, 0), (98, 105, 115, 0), (115, 117, 115, 0)]) 19 442 (wX0_run E) := by
  refine body_metW (fun _ => false) EN.kn (fun w h => h) (by decide +kernel) rfl (fun av h Q hw => ?_) ?_
  · unfold wX0_run at hw
    split at hw
    · exact Nat.le_of_ble_eq_true rfl
    · exact hw.elim
  · intro p e s m below meth c av h Q hxt G hw
    unfold wX0_run at hw
    split at hw
    · exact tX0_run_0 EN G ⟨rfl, rfl⟩ rfl hxt (fun _ _ _ h => h) _ _ _ (hw (AW _ 22) (tX0_run_22 EN G ⟨rfl, rfl⟩ rfl hxt (fun _ _ _ h => h)))
    · exact hw.elim
/-! ChantRules.save()I (X0_save) -/
def bX0_save_0 (E : Nat → Value) (Q : Rs → HS → Prop) : Ct :=
  o_aload 0 <|
  o_aload 0 <|
  o_getf [0] 1 <|
  o_callV [1] 1 (wX1_copy E) (x_out Q) <|
  o_putf [0] 2 (.object "ChantRules$Choir") <|
  o_aload 0 <|
  o_getf [0] 2 <|
  o_callV [1] 1 (wX1_arcs E) (x_out Q) <|
  o_ireturn .int Q
def wX0_save (E : Nat → Value) : Wp := fun av h Q => match av with
  | [a0] => bX0_save_0 E Q [a0] [] h
  | _ => False
set_option maxHeartbeats 4000000 in
theorem tX0_save_0 {x : CX} {E : Nat → Value} {Q : Rs → HS → Prop} (EN : EX x E) (G : Gd x cX0_save "ChantRules" yX0_save 1 (Option.some Jvm.ClassFile.FieldType.int) Q) (hF : x.1.2.2.2.frames = 16 ∧ x.1.2.2.2.locals = 376) (hC : x.2.2.2.2.2 = (fun _ => false)) (hxt : (∀ z ∈ x.2.2.1.2.1.exceptionTable.toList, False)) : Snd x 0 (bX0_save_0 E Q) := by
  unfold bX0_save_0
  refine s_aload_n rfl G.b dX0_save_0 ?_
  refine s_aload_n rfl G.b dX0_save_1 ?_
  refine s_getf G.b G.ow G.kn (G.hts _ q300) (fun _ h => h) fa_11 dX0_save_2 ?_
  refine s_callV G (mX1_copy EN) q342 q343 (sel_cons (r := (RX1, TX1, 4)) (by decide) rfl q344 (sel_nil)) q77 q345 nmk_82 (rm_of hF (Nat.le_of_ble_eq_true rfl) (Nat.le_of_ble_eq_true rfl)) dX0_save_5 ?_ (sx_out G (fun z hz => (hxt z hz).elim))
  refine s_putf G.b G.ow G.kn (G.hts _ q301) (fun _ h => h) fa_63 (la_cons (r := (RX0, TX0, 10)) G.hts (by decide) rfl q314 (la_nil)) (by decide +kernel) dX0_save_8 ?_
  refine s_aload_n rfl G.b dX0_save_11 ?_
  refine s_getf G.b G.ow G.kn (G.hts _ q301) (fun _ h => h) fa_63 dX0_save_12 ?_
  refine s_callV G (mX1_arcs EN) q1854 q1835 (sel_cons (r := (RX1, TX1, 4)) (by decide) rfl q1836 (sel_nil)) q77 q1837 nmk_186 (rm_of hF (Nat.le_of_ble_eq_true rfl) (Nat.le_of_ble_eq_true rfl)) dX0_save_15 ?_ (sx_out G (fun z hz => (hxt z hz).elim))
  exact s_ireturn G dX0_save_18
set_option maxHeartbeats 4000000 in
theorem mX0_save {l : Launch} {D : DE} {s0 : State} {E : Nat → Value} (EN : EV l D s0 E) : rMet l D s0 yX0_save (ws_ yX0_save cX0_save 1 (Option.some Jvm.ClassFile.FieldType.int)) 16 376 (wX0_save E) := by
  refine body_met (fun _ => false) EN.kn (fun w h => h) (by decide +kernel) rfl (fun av h Q hw => ?_) ?_
  · unfold wX0_save at hw
    split at hw
    · exact Nat.le_of_ble_eq_true rfl
    · exact hw.elim
  · intro p e s m below meth c av h Q hxt G hw
    unfold wX0_save at hw
    split at hw
    · exact tX0_save_0 EN G ⟨rfl, rfl⟩ rfl hxt _ _ _ hw
    · exact hw.elim
/-! ChantRules.shortest(I)I (X0_shortest) -/
def bX0_shortest_25 (E : Nat → Value) (Q : Rs → HS → Prop) : Ct :=
  o_ireturn .int Q
def bX0_shortest_23 (E : Nat → Value) (Q : Rs → HS → Prop) : Ct :=
  o_push (.int (-11)) <|
  (bX0_shortest_25 E Q)
def bX0_shortest_0 (E : Nat → Value) (Q : Rs → HS → Prop) : Ct :=
  o_iload 1 <|
  o_call 1 (wX0_isRule E) (x_out Q) <|
  o_ifeq (bX0_shortest_23 E Q) <|
  o_aload 0 <|
  o_getf [0] 1 <|
  o_getf [1] 0 <|
  o_iload 1 <|
  o_ald [103, 104, 105, 106, 107] <|
  o_push (.int 0) <|
  o_callV [2] 2 (wX2_leastOf E) (x_out Q) <|
  (bX0_shortest_25 E Q)
def wX0_shortest (E : Nat → Value) : Wp := fun av h Q => match av with
  | [a0, a1] => bX0_shortest_0 E Q [a0, a1] [] h
  | _ => False
set_option maxHeartbeats 4000000 in
theorem tX0_shortest_25 {x : CX} {E : Nat → Value} {Q : Rs → HS → Prop} (EN : EX x E) (G : Gd x cX0_shortest "ChantRules" yX0_shortest 2 (Option.some Jvm.ClassFile.FieldType.int) Q) (hF : x.1.2.2.2.frames = 5 ∧ x.1.2.2.2.locals = 134) (hC : x.2.2.2.2.2 = (fun _ => false)) (hxt : (∀ z ∈ x.2.2.1.2.1.exceptionTable.toList, False)) : Snd x 25 (bX0_shortest_25 E Q) := by
  unfold bX0_shortest_25
  exact s_ireturn G dX0_shortest_25
set_option maxHeartbeats 4000000 in
theorem tX0_shortest_23 {x : CX} {E : Nat → Value} {Q : Rs → HS → Prop} (EN : EX x E) (G : Gd x cX0_shortest "ChantRules" yX0_shortest 2 (Option.some Jvm.ClassFile.FieldType.int) Q) (hF : x.1.2.2.2.frames = 5 ∧ x.1.2.2.2.locals = 134) (hC : x.2.2.2.2.2 = (fun _ => false)) (hxt : (∀ z ∈ x.2.2.1.2.1.exceptionTable.toList, False)) : Snd x 23 (bX0_shortest_23 E Q) := by
  unfold bX0_shortest_23
  refine s_bipush (by decide) G.b dX0_shortest_23 ?_
  exact (tX0_shortest_25 EN G hF hC hxt)
set_option maxHeartbeats 4000000 in
theorem tX0_shortest_0 {x : CX} {E : Nat → Value} {Q : Rs → HS → Prop} (EN : EX x E) (G : Gd x cX0_shortest "ChantRules" yX0_shortest 2 (Option.some Jvm.ClassFile.FieldType.int) Q) (hF : x.1.2.2.2.frames = 5 ∧ x.1.2.2.2.locals = 134) (hC : x.2.2.2.2.2 = (fun _ => false)) (hxt : (∀ z ∈ x.2.2.1.2.1.exceptionTable.toList, False)) : Snd x 0 (bX0_shortest_0 E Q) := by
  unfold bX0_shortest_0
  refine s_iload_n rfl G.b dX0_shortest_0 ?_
  refine s_callS G (mX0_isRule EN) q336 q337 q76 q338 nmk_66 (rm_of hF (Nat.le_of_ble_eq_true rfl) (Nat.le_of_ble_eq_true rfl)) dX0_shortest_1 ?_ (sx_out G (fun z hz => (hxt z hz).elim))
  refine s_ifeq (tgt := 23) G.b dX0_shortest_4 (by decide) (tX0_shortest_23 EN G hF hC hxt) ?_
  refine s_aload_n rfl G.b dX0_shortest_7 ?_
  refine s_getf G.b G.ow G.kn (G.hts _ q300) (fun _ h => h) fa_11 dX0_shortest_8 ?_
  refine s_getfN G.b G.ow G.kn (va_Nw.use rfl (va_Nw.warmF G.warm (EN.nw q194 rfl))) (fun _ h => h) fa_5 dX0_shortest_11 ?_
  refine s_iload_n rfl G.b dX0_shortest_14 ?_
  refine s_aald G.b G.kn dX0_shortest_15 ?_
  refine s_iconst (by decide) G.b dX0_shortest_16 ?_
  refine s_callVU (w := ⟨"ChantRules$Rule", "leastOf", "(Z)I"⟩) (owner := "ChantRules$Machine") G (mX2_leastOf EN) q1380 q1381 (va_Decl.of (G.hts _ q1384) (G.hts _ q1385)) (by decide +kernel) q1384 (sel_cons (r := (RX3, TX3, 3)) (by decide) rfl q1383 (sel_nil)) q78 q1385 nmk_151 (rm_of hF (Nat.le_of_ble_eq_true rfl) (Nat.le_of_ble_eq_true rfl)) dX0_shortest_17 ?_ (sx_out G (fun z hz => (hxt z hz).elim))
  exact s_goto (tgt := 25) G.b dX0_shortest_20 (by decide) (tX0_shortest_25 EN G hF hC hxt)
set_option maxHeartbeats 4000000 in
theorem mX0_shortest {l : Launch} {D : DE} {s0 : State} {E : Nat → Value} (EN : EV l D s0 E) : rMet l D s0 yX0_shortest (ws_ yX0_shortest cX0_shortest 2 (Option.some Jvm.ClassFile.FieldType.int)) 5 134 (wX0_shortest E) := by
  refine body_met (fun _ => false) EN.kn (fun w h => h) (by decide +kernel) rfl (fun av h Q hw => ?_) ?_
  · unfold wX0_shortest at hw
    split at hw
    · exact Nat.le_of_ble_eq_true rfl
    · exact hw.elim
  · intro p e s m below meth c av h Q hxt G hw
    unfold wX0_shortest at hw
    split at hw
    · exact tX0_shortest_0 EN G ⟨rfl, rfl⟩ rfl hxt _ _ _ hw
    · exact hw.elim
/-! ChantRules$Letter.writes(Ljava/lang/StringBuilder;)V (X10_writes) -/
theorem nmk_227 : nm_ok yX10_writes 1 := ⟨by decide +kernel, by decide +kernel, by decide +kernel⟩
def bX10_writes_26 (E : Nat → Value) (Q : Rs → HS → Prop) (Wr : Wp) : Ct :=
  o_callV [18] 2 (wJ5_append E) (x_out Q) <|
  o_pop <|
  o_return Q
def bX10_writes_15 (E : Nat → Value) (Q : Rs → HS → Prop) (Wr : Wp) : Ct :=
  o_aload 1 <|
  o_aload 0 <|
  o_getf [3] 1 <|
  o_call 1 (wX0_sound E) (x_out Q) <|
  o_vsel 1 [21] (o_callV [21] 1 (wX4_sign E) (x_out Q) (bX10_writes_26 E Q Wr)) (o_sign1 (bX10_writes_26 E Q Wr))
def bX10_writes_0 (E : Nat → Value) (Q : Rs → HS → Prop) (Wr : Wp) : Ct :=
  o_aload 0 <|
  o_getf [3] 0 <|
  o_ifnull (bX10_writes_15 E Q Wr) <|
  o_aload 0 <|
  o_getf [3] 0 <|
  o_aload 1 <|
  o_callV [3] 2 Wr (x_out Q) <|
  (bX10_writes_15 E Q Wr)
def wX10_writes (E : Nat → Value) : Nat → Wp
  | 0 => fun _ _ _ => False
  | d + 1 => fun av h Q => match av with
    | [a0, a1] => bX10_writes_0 E Q (wX10_writes E d) [a0, a1] [] h
    | _ => False
set_option maxHeartbeats 4000000 in
theorem tX10_writes_26 {x : CX} {E : Nat → Value} {Q : Rs → HS → Prop} {Wr : Wp} {Fr Lr : Nat} {Fp Lp : Nat} (EN : EX x E) (G : Gd x cX10_writes "ChantRules$Letter" yX10_writes 2 (Option.none : Option Jvm.ClassFile.FieldType) Q) (hF : x.1.2.2.2.frames = 12 + Fr ∧ x.1.2.2.2.locals = 286 + Lr * 21) (hC : x.2.2.2.2.2 = (fun _ => false)) (hxt : (∀ z ∈ x.2.2.1.2.1.exceptionTable.toList, False)) (hr : rMet x.1.2.1 (yD x) x.2.2.2.1.2.1 yX10_writes (ws_ yX10_writes cX10_writes 2 (Option.none : Option Jvm.ClassFile.FieldType)) (12 + Fp) (286 + Lp * 21) Wr) (hp : Fp + 1 = Fr ∧ Lp + 1 = Lr) : Snd x 26 (bX10_writes_26 E Q Wr) := by
  unfold bX10_writes_26
  refine s_callV G (mJ5_append EN) q1128 q1129 (sel_cons (r := (RJ5, TJ5, 4)) (by decide) rfl q1130 (sel_nil)) q85 q1131 nmk_49 (rm_of hF (by omega) (by omega)) dX10_writes_26 ?_ (sx_out G (fun z hz => (hxt z hz).elim))
  refine s_pop G.b dX10_writes_29 ?_
  exact s_return G dX10_writes_30
set_option maxHeartbeats 4000000 in
theorem tX10_writes_15 {x : CX} {E : Nat → Value} {Q : Rs → HS → Prop} {Wr : Wp} {Fr Lr : Nat} {Fp Lp : Nat} (EN : EX x E) (G : Gd x cX10_writes "ChantRules$Letter" yX10_writes 2 (Option.none : Option Jvm.ClassFile.FieldType) Q) (hF : x.1.2.2.2.frames = 12 + Fr ∧ x.1.2.2.2.locals = 286 + Lr * 21) (hC : x.2.2.2.2.2 = (fun _ => false)) (hxt : (∀ z ∈ x.2.2.1.2.1.exceptionTable.toList, False)) (hr : rMet x.1.2.1 (yD x) x.2.2.2.1.2.1 yX10_writes (ws_ yX10_writes cX10_writes 2 (Option.none : Option Jvm.ClassFile.FieldType)) (12 + Fp) (286 + Lp * 21) Wr) (hp : Fp + 1 = Fr ∧ Lp + 1 = Lr) : Snd x 15 (bX10_writes_15 E Q Wr) := by
  unfold bX10_writes_15
  refine s_aload_n rfl G.b dX10_writes_15 ?_
  refine s_aload_n rfl G.b dX10_writes_16 ?_
  refine s_getf G.b G.ow G.kn (G.hts _ q1048) (fun _ h => h) fa_49 dX10_writes_17 ?_
  refine s_callSN G (mX0_sound EN) (va_Nw.use rfl (va_Nw.warmM G.warm (EN.nw q1106 rfl))) q1107 q76 q1108 nmk_184 (rm_of hF (by omega) (by omega)) dX10_writes_20 ?_ (sx_out G (fun z hz => (hxt z hz).elim))
  exact (s_vsel (s_callV G (mX4_sign EN) q1119 q1120 (sel_cons (r := (RSnd, TSnd, 1)) (by decide) rfl q1121 (sel_nil)) q89 q1126 nmk_185 (rm_of hF (by omega) (by omega)) dX10_writes_23 (tX10_writes_26 EN G hF hC hxt hr hp) (sx_out G (fun z hz => (hxt z hz).elim)) ) (s_sign1 EN G (rm_of hF (by omega) (by omega)) q1119 dX10_writes_23 (tX10_writes_26 EN G hF hC hxt hr hp) ))
set_option maxHeartbeats 4000000 in
theorem tX10_writes_0 {x : CX} {E : Nat → Value} {Q : Rs → HS → Prop} {Wr : Wp} {Fr Lr : Nat} {Fp Lp : Nat} (EN : EX x E) (G : Gd x cX10_writes "ChantRules$Letter" yX10_writes 2 (Option.none : Option Jvm.ClassFile.FieldType) Q) (hF : x.1.2.2.2.frames = 12 + Fr ∧ x.1.2.2.2.locals = 286 + Lr * 21) (hC : x.2.2.2.2.2 = (fun _ => false)) (hxt : (∀ z ∈ x.2.2.1.2.1.exceptionTable.toList, False)) (hr : rMet x.1.2.1 (yD x) x.2.2.2.1.2.1 yX10_writes (ws_ yX10_writes cX10_writes 2 (Option.none : Option Jvm.ClassFile.FieldType)) (12 + Fp) (286 + Lp * 21) Wr) (hp : Fp + 1 = Fr ∧ Lp + 1 = Lr) : Snd x 0 (bX10_writes_0 E Q Wr) := by
  unfold bX10_writes_0
  have hrr : rmOk x (12 + Fp) (286 + Lp * 21) 2 := by
    obtain ⟨hp1, hp2⟩ := hp
    exact ⟨by rw [hF.1]; omega, by rw [hF.2]; omega⟩
  refine s_aload_n rfl G.b dX10_writes_0 ?_
  refine s_getf G.b G.ow G.kn (G.hts _ q1047) (fun _ h => h) fa_50 dX10_writes_1 ?_
  refine s_ifnull (tgt := 15) G.b dX10_writes_4 (by decide) (tX10_writes_15 EN G hF hC hxt hr hp) ?_
  refine s_aload_n rfl G.b dX10_writes_7 ?_
  refine s_getf G.b G.ow G.kn (G.hts _ q1047) (fun _ h => h) fa_50 dX10_writes_8 ?_
  refine s_aload_n rfl G.b dX10_writes_11 ?_
  refine s_callV G hr q1105 q1102 (sel_cons (r := (RX10, TX10, 3)) (by decide) rfl q1103 (sel_nil)) q104 q1104 nmk_227 hrr dX10_writes_12 ?_ (sx_out G (fun z hz => (hxt z hz).elim))
  exact (tX10_writes_15 EN G hF hC hxt hr hp)
set_option maxHeartbeats 4000000 in
theorem mX10_writes {l : Launch} {D : DE} {s0 : State} {E : Nat → Value} (EN : EV l D s0 E) : ∀ d, rMet l D s0 yX10_writes (ws_ yX10_writes cX10_writes 2 (Option.none : Option Jvm.ClassFile.FieldType)) (12 + d) (286 + d * 21) (wX10_writes E d) := by
  intro d
  induction d with
  | zero => intro av h Q hA hw; exact hw.elim
  | succ d ih =>
    refine body_met (fun _ => false) EN.kn (fun w h => h) (by decide +kernel) rfl (fun av h Q hw => ?_) ?_
    · unfold wX10_writes at hw
      split at hw
      · exact Nat.le_of_ble_eq_true rfl
      · exact hw.elim
    · intro p e s m below meth c av h Q hxt G hw
      unfold wX10_writes at hw
      split at hw
      · exact tX10_writes_0 (Fr := d + 1) (Lr := d + 1) (Fp := d) (Lp := d) EN G ⟨rfl, rfl⟩ rfl hxt ih ⟨rfl, rfl⟩ _ _ _ hw
      · exact hw.elim
/-! ChantRules.textOf(LChantRules$Letter;)Ljava/lang/String; (X0_textOf) -/
def bX0_textOf_17 (E : Nat → Value) (Q : Rs → HS → Prop) : Ct :=
  o_aload 1 <|
  o_callV [18] 1 (wJ5_toString E) (x_out Q) <|
  o_areturn Q
def bX0_textOf_0 (E : Nat → Value) (Q : Rs → HS → Prop) : Ct :=
  o_new 18 4 [.null, .int 0, .int 0, .int 0] <|
  o_dup <|
  o_callI 1 (wJ5_init E) (x_out Q) <|
  o_astore 1 <|
  o_aload 0 <|
  o_ifnull (bX0_textOf_17 E Q) <|
  o_aload 0 <|
  o_aload 1 <|
  o_callV [3] 2 (wX10_writes E 400) (x_out Q) <|
  (bX0_textOf_17 E Q)
def wX0_textOf (E : Nat → Value) : Wp := fun av h Q => match av with
  | [a0] => bX0_textOf_0 E Q [a0, jk] [] h
  | _ => False
set_option maxHeartbeats 4000000 in
theorem tX0_textOf_17 {x : CX} {E : Nat → Value} {Q : Rs → HS → Prop} (EN : EX x E) (G : Gd x cX0_textOf "ChantRules" yX0_textOf 2 (Option.some (Jvm.ClassFile.FieldType.object "java/lang/String")) Q) (hF : x.1.2.2.2.frames = 413 ∧ x.1.2.2.2.locals = 8707) (hC : x.2.2.2.2.2 = (fun _ => false)) (hxt : (∀ z ∈ x.2.2.1.2.1.exceptionTable.toList, False)) : Snd x 17 (bX0_textOf_17 E Q) := by
  unfold bX0_textOf_17
  refine s_aload_n rfl G.b dX0_textOf_17 ?_
  refine s_callV G (mJ5_toString EN) q1186 q1187 (sel_cons (r := (RJ5, TJ5, 4)) (by decide) rfl q1188 (sel_nil)) q85 q1189 nmk_182 (rm_of hF (Nat.le_of_ble_eq_true rfl) (Nat.le_of_ble_eq_true rfl)) dX0_textOf_18 ?_ (sx_out G (fun z hz => (hxt z hz).elim))
  exact s_areturn (Or.inl ⟨_, rfl⟩) G dX0_textOf_21
set_option maxHeartbeats 4000000 in
theorem tX0_textOf_0 {x : CX} {E : Nat → Value} {Q : Rs → HS → Prop} (EN : EX x E) (G : Gd x cX0_textOf "ChantRules" yX0_textOf 2 (Option.some (Jvm.ClassFile.FieldType.object "java/lang/String")) Q) (hF : x.1.2.2.2.frames = 413 ∧ x.1.2.2.2.locals = 8707) (hC : x.2.2.2.2.2 = (fun _ => false)) (hxt : (∀ z ∈ x.2.2.1.2.1.exceptionTable.toList, False)) : Snd x 0 (bX0_textOf_0 E Q) := by
  unfold bX0_textOf_0
  refine s_new (C := RJ5) (T0 := TJ5) (N := 4) G.b G.ow G.kn G.gr G.hts rfl (by decide) in_J5 q227 q228 q85 tyJ5 tyJ5_ok rfl dX0_textOf_0 ?_
  refine s_dup G.b dX0_textOf_3 ?_
  refine s_callI G (mJ5_init EN) rfl q229 q230 q85 q231 nmk_11 (rm_of hF (Nat.le_of_ble_eq_true rfl) (Nat.le_of_ble_eq_true rfl)) dX0_textOf_4 ?_ (sx_out G (fun z hz => (hxt z hz).elim))
  refine s_astore_n rfl G.b (by rw [G.nl]; decide) (fun _ _ => by rw [hC]) dX0_textOf_7 ?_
  refine s_aload_n rfl G.b dX0_textOf_8 ?_
  refine s_ifnull (tgt := 17) G.b dX0_textOf_9 (by decide) (tX0_textOf_17 EN G hF hC hxt) ?_
  refine s_aload_n rfl G.b dX0_textOf_12 ?_
  refine s_aload_n rfl G.b dX0_textOf_13 ?_
  refine s_callV G (mX10_writes EN 400) q1101 q1102 (sel_cons (r := (RX10, TX10, 3)) (by decide) rfl q1103 (sel_nil)) q104 q1104 nmk_227 (rm_of hF (Nat.le_of_ble_eq_true rfl) (Nat.le_of_ble_eq_true rfl)) dX0_textOf_14 ?_ (sx_out G (fun z hz => (hxt z hz).elim))
  exact (tX0_textOf_17 EN G hF hC hxt)
set_option maxHeartbeats 4000000 in
theorem mX0_textOf {l : Launch} {D : DE} {s0 : State} {E : Nat → Value} (EN : EV l D s0 E) : rMet l D s0 yX0_textOf (ws_ yX0_textOf cX0_textOf 2 (Option.some (Jvm.ClassFile.FieldType.object "java/lang/String"))) 413 8707 (wX0_textOf E) := by
  refine body_met (fun _ => false) EN.kn (fun w h => h) (by decide +kernel) rfl (fun av h Q hw => ?_) ?_
  · unfold wX0_textOf at hw
    split at hw
    · exact Nat.le_of_ble_eq_true rfl
    · exact hw.elim
  · intro p e s m below meth c av h Q hxt G hw
    unfold wX0_textOf at hw
    split at hw
    · exact tX0_textOf_0 EN G ⟨rfl, rfl⟩ rfl hxt _ _ _ hw
    · exact hw.elim
/-! ChantRules.sung(LChantRules$Way;)I (X0_sung) -/
theorem nmk_228 : nm_ok yX0_textOf 1 := ⟨by decide +kernel, by decide +kernel, by decide +kernel⟩
def bX0_sung_7 (E : Nat → Value) (Q : Rs → HS → Prop) : Ct :=
  o_aload 0 <|
  o_aload 1 <|
  o_getf [12] 1 <|
  o_call 1 (wX0_textOf E) (x_out Q) <|
  o_putf [0] 9 (.object "java/lang/String") <|
  o_aload 0 <|
  o_getf [0] 9 <|
  o_callV [19] 1 (wJ6_length E) (x_out Q) <|
  o_ireturn .int Q
def bX0_sung_0 (E : Nat → Value) (Q : Rs → HS → Prop) : Ct :=
  o_aload 1 <|
  o_ifnonnull (bX0_sung_7 E Q) <|
  o_push (.int (-15)) <|
  o_ireturn .int Q
def wX0_sung (E : Nat → Value) : Wp := fun av h Q => match av with
  | [a0, a1] => bX0_sung_0 E Q [a0, a1] [] h
  | _ => False
set_option maxHeartbeats 4000000 in
theorem tX0_sung_7 {x : CX} {E : Nat → Value} {Q : Rs → HS → Prop} (EN : EX x E) (G : Gd x cX0_sung "ChantRules" yX0_sung 2 (Option.some Jvm.ClassFile.FieldType.int) Q) (hF : x.1.2.2.2.frames = 414 ∧ x.1.2.2.2.locals = 8728) (hC : x.2.2.2.2.2 = (fun _ => false)) (hxt : (∀ z ∈ x.2.2.1.2.1.exceptionTable.toList, False)) : Snd x 7 (bX0_sung_7 E Q) := by
  unfold bX0_sung_7
  refine s_aload_n rfl G.b dX0_sung_7 ?_
  refine s_aload_n rfl G.b dX0_sung_8 ?_
  refine s_getfN G.b G.ow G.kn (va_Nw.use rfl (va_Nw.warmF G.warm (EN.nw q1004 rfl))) (fun _ h => h) fa_52 dX0_sung_9 ?_
  refine s_callS G (mX0_textOf EN) q1098 q1099 q76 q1100 nmk_228 (rm_of hF (Nat.le_of_ble_eq_true rfl) (Nat.le_of_ble_eq_true rfl)) dX0_sung_12 ?_ (sx_out G (fun z hz => (hxt z hz).elim))
  refine s_putf G.b G.ow G.kn (G.hts _ q309) (fun _ h => h) fa_14 (la_cons (r := (RX0, TX0, 10)) G.hts (by decide) rfl q328 (la_nil)) (by decide +kernel) dX0_sung_15 ?_
  refine s_aload_n rfl G.b dX0_sung_18 ?_
  refine s_getf G.b G.ow G.kn (G.hts _ q309) (fun _ h => h) fa_14 dX0_sung_19 ?_
  refine s_callV G (mJ6_length EN) q1236 q982 (sel_cons (r := (RJ6, TJ6, 4)) (by decide) rfl q2351 (sel_nil)) q86 q984 nmk_149 (rm_of hF (Nat.le_of_ble_eq_true rfl) (Nat.le_of_ble_eq_true rfl)) dX0_sung_22 ?_ (sx_out G (fun z hz => (hxt z hz).elim))
  exact s_ireturn G dX0_sung_25
set_option maxHeartbeats 4000000 in
theorem tX0_sung_0 {x : CX} {E : Nat → Value} {Q : Rs → HS → Prop} (EN : EX x E) (G : Gd x cX0_sung "ChantRules" yX0_sung 2 (Option.some Jvm.ClassFile.FieldType.int) Q) (hF : x.1.2.2.2.frames = 414 ∧ x.1.2.2.2.locals = 8728) (hC : x.2.2.2.2.2 = (fun _ => false)) (hxt : (∀ z ∈ x.2.2.1.2.1.exceptionTable.toList, False)) : Snd x 0 (bX0_sung_0 E Q) := by
  unfold bX0_sung_0
  refine s_aload_n rfl G.b dX0_sung_0 ?_
  refine s_ifnonnull (tgt := 7) G.b dX0_sung_1 (by decide) (tX0_sung_7 EN G hF hC hxt) ?_
  refine s_bipush (by decide) G.b dX0_sung_4 ?_
  exact s_ireturn G dX0_sung_6
set_option maxHeartbeats 4000000 in
theorem mX0_sung {l : Launch} {D : DE} {s0 : State} {E : Nat → Value} (EN : EV l D s0 E) : rMet l D s0 yX0_sung (ws_ yX0_sung cX0_sung 2 (Option.some Jvm.ClassFile.FieldType.int)) 414 8728 (wX0_sung E) := by
  refine body_met (fun _ => false) EN.kn (fun w h => h) (by decide +kernel) rfl (fun av h Q hw => ?_) ?_
  · unfold wX0_sung at hw
    split at hw
    · exact Nat.le_of_ble_eq_true rfl
    · exact hw.elim
  · intro p e s m below meth c av h Q hxt G hw
    unfold wX0_sung at hw
    split at hw
    · exact tX0_sung_0 EN G ⟨rfl, rfl⟩ rfl hxt _ _ _ hw
    · exact hw.elim
/-! ChantRules.sing(I)I (X0_sing) -/
theorem nmk_229 : nm_ok yX0_sung 1 := ⟨by decide +kernel, by decide +kernel, by decide +kernel⟩
def bX0_sing_44 (E : Nat → Value) (Q : Rs → HS → Prop) : Ct :=
  o_ireturn .int Q
def bX0_sing_24 (E : Nat → Value) (Q : Rs → HS → Prop) : Ct :=
  o_aload 0 <|
  o_aload 0 <|
  o_getf [0] 1 <|
  o_getf [1] 0 <|
  o_iload 1 <|
  o_ald [103, 104, 105, 106, 107] <|
  o_aload 0 <|
  o_getf [0] 8 <|
  o_callV [2] 2 (wX2_reads E) (x_out Q) <|
  o_callV [0] 2 (wX0_sung E) (x_out Q) <|
  (bX0_sing_44 E Q)
def bX0_sing_12 (E : Nat → Value) (Q : Rs → HS → Prop) : Ct :=
  o_aload 0 <|
  o_callV [0] 1 (wX0_isWord E) (x_out Q) <|
  o_ifne (bX0_sing_24 E Q) <|
  o_push (.int (-12)) <|
  (bX0_sing_44 E Q)
def bX0_sing_0 (E : Nat → Value) (Q : Rs → HS → Prop) : Ct :=
  o_iload 1 <|
  o_call 1 (wX0_isRule E) (x_out Q) <|
  o_ifne (bX0_sing_12 E Q) <|
  o_push (.int (-11)) <|
  (bX0_sing_44 E Q)
def wX0_sing (E : Nat → Value) : Wp := fun av h Q => match av with
  | [a0, a1] => bX0_sing_0 E Q [a0, a1] [] h
  | _ => False
set_option maxHeartbeats 4000000 in
theorem tX0_sing_44 {x : CX} {E : Nat → Value} {Q : Rs → HS → Prop} (EN : EX x E) (G : Gd x cX0_sing "ChantRules" yX0_sing 2 (Option.some Jvm.ClassFile.FieldType.int) Q) (hF : x.1.2.2.2.frames = 415 ∧ x.1.2.2.2.locals = 9014) (hC : x.2.2.2.2.2 = (fun _ => false)) (hxt : (∀ z ∈ x.2.2.1.2.1.exceptionTable.toList, False)) : Snd x 44 (bX0_sing_44 E Q) := by
  unfold bX0_sing_44
  exact s_ireturn G dX0_sing_44
set_option maxHeartbeats 4000000 in
theorem tX0_sing_24 {x : CX} {E : Nat → Value} {Q : Rs → HS → Prop} (EN : EX x E) (G : Gd x cX0_sing "ChantRules" yX0_sing 2 (Option.some Jvm.ClassFile.FieldType.int) Q) (hF : x.1.2.2.2.frames = 415 ∧ x.1.2.2.2.locals = 9014) (hC : x.2.2.2.2.2 = (fun _ => false)) (hxt : (∀ z ∈ x.2.2.1.2.1.exceptionTable.toList, False)) : Snd x 24 (bX0_sing_24 E Q) := by
  unfold bX0_sing_24
  refine s_aload_n rfl G.b dX0_sing_24 ?_
  refine s_aload_n rfl G.b dX0_sing_25 ?_
  refine s_getf G.b G.ow G.kn (G.hts _ q300) (fun _ h => h) fa_11 dX0_sing_26 ?_
  refine s_getfN G.b G.ow G.kn (va_Nw.use rfl (va_Nw.warmF G.warm (EN.nw q194 rfl))) (fun _ h => h) fa_5 dX0_sing_29 ?_
  refine s_iload_n rfl G.b dX0_sing_32 ?_
  refine s_aald G.b G.kn dX0_sing_33 ?_
  refine s_aload_n rfl G.b dX0_sing_34 ?_
  refine s_getf G.b G.ow G.kn (G.hts _ q307) (fun _ h => h) fa_13 dX0_sing_35 ?_
  refine s_callVU (w := ⟨"ChantRules$Rule", "reads", "(Ljava/lang/CharSequence;)LChantRules$Way;"⟩) (owner := "ChantRules$Machine") G (mX2_reads EN) q969 q970 (va_Decl.of (G.hts _ q973) (G.hts _ q974)) (by decide +kernel) q973 (sel_cons (r := (RX3, TX3, 3)) (by decide) rfl q972 (sel_nil)) q78 q974 nmk_188 (rm_of hF (Nat.le_of_ble_eq_true rfl) (Nat.le_of_ble_eq_true rfl)) dX0_sing_38 ?_ (sx_out G (fun z hz => (hxt z hz).elim))
  refine s_callV G (mX0_sung EN) q1094 q1096 (sel_cons (r := (RX0, TX0, 10)) (by decide) rfl qs11 (sel_nil)) q76 q1097 nmk_229 (rm_of hF (Nat.le_of_ble_eq_true rfl) (Nat.le_of_ble_eq_true rfl)) dX0_sing_41 ?_ (sx_out G (fun z hz => (hxt z hz).elim))
  exact (tX0_sing_44 EN G hF hC hxt)
set_option maxHeartbeats 4000000 in
theorem tX0_sing_12 {x : CX} {E : Nat → Value} {Q : Rs → HS → Prop} (EN : EX x E) (G : Gd x cX0_sing "ChantRules" yX0_sing 2 (Option.some Jvm.ClassFile.FieldType.int) Q) (hF : x.1.2.2.2.frames = 415 ∧ x.1.2.2.2.locals = 9014) (hC : x.2.2.2.2.2 = (fun _ => false)) (hxt : (∀ z ∈ x.2.2.1.2.1.exceptionTable.toList, False)) : Snd x 12 (bX0_sing_12 E Q) := by
  unfold bX0_sing_12
  refine s_aload_n rfl G.b dX0_sing_12 ?_
  refine s_callV G (mX0_isWord EN) q932 q934 (sel_cons (r := (RX0, TX0, 10)) (by decide) rfl qs10 (sel_nil)) q76 q935 nmk_118 (rm_of hF (Nat.le_of_ble_eq_true rfl) (Nat.le_of_ble_eq_true rfl)) dX0_sing_13 ?_ (sx_out G (fun z hz => (hxt z hz).elim))
  refine s_ifne (tgt := 24) G.b dX0_sing_16 (by decide) (tX0_sing_24 EN G hF hC hxt) ?_
  refine s_bipush (by decide) G.b dX0_sing_19 ?_
  exact s_goto (tgt := 44) G.b dX0_sing_21 (by decide) (tX0_sing_44 EN G hF hC hxt)
set_option maxHeartbeats 4000000 in
theorem tX0_sing_0 {x : CX} {E : Nat → Value} {Q : Rs → HS → Prop} (EN : EX x E) (G : Gd x cX0_sing "ChantRules" yX0_sing 2 (Option.some Jvm.ClassFile.FieldType.int) Q) (hF : x.1.2.2.2.frames = 415 ∧ x.1.2.2.2.locals = 9014) (hC : x.2.2.2.2.2 = (fun _ => false)) (hxt : (∀ z ∈ x.2.2.1.2.1.exceptionTable.toList, False)) : Snd x 0 (bX0_sing_0 E Q) := by
  unfold bX0_sing_0
  refine s_iload_n rfl G.b dX0_sing_0 ?_
  refine s_callS G (mX0_isRule EN) q336 q337 q76 q338 nmk_66 (rm_of hF (Nat.le_of_ble_eq_true rfl) (Nat.le_of_ble_eq_true rfl)) dX0_sing_1 ?_ (sx_out G (fun z hz => (hxt z hz).elim))
  refine s_ifne (tgt := 12) G.b dX0_sing_4 (by decide) (tX0_sing_12 EN G hF hC hxt) ?_
  refine s_bipush (by decide) G.b dX0_sing_7 ?_
  exact s_goto (tgt := 44) G.b dX0_sing_9 (by decide) (tX0_sing_44 EN G hF hC hxt)
set_option maxHeartbeats 4000000 in
theorem mX0_sing {l : Launch} {D : DE} {s0 : State} {E : Nat → Value} (EN : EV l D s0 E) : rMet l D s0 yX0_sing (ws_ yX0_sing cX0_sing 2 (Option.some Jvm.ClassFile.FieldType.int)) 415 9014 (wX0_sing E) := by
  refine body_met (fun _ => false) EN.kn (fun w h => h) (by decide +kernel) rfl (fun av h Q hw => ?_) ?_
  · unfold wX0_sing at hw
    split at hw
    · exact Nat.le_of_ble_eq_true rfl
    · exact hw.elim
  · intro p e s m below meth c av h Q hxt G hw
    unfold wX0_sing at hw
    split at hw
    · exact tX0_sing_0 EN G ⟨rfl, rfl⟩ rfl hxt _ _ _ hw
    · exact hw.elim
