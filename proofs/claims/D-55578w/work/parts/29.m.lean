set_option maxRecDepth 100000
/-! ChantRulesModel.isAhead(III)Z (X5_isAhead) -/
def bX5_isAhead_115 (E : Nat → Value) (Q : Rs → HS → Prop) : Ct :=
  o_ireturn .boolean Q
def bX5_isAhead_114 (E : Nat → Value) (Q : Rs → HS → Prop) : Ct :=
  o_push (.int 0) <|
  (bX5_isAhead_115 E Q)
def bX5_isAhead_110 (E : Nat → Value) (Q : Rs → HS → Prop) : Ct :=
  o_push (.int 1) <|
  (bX5_isAhead_115 E Q)
def bX5_isAhead_93 (E : Nat → Value) (Q : Rs → HS → Prop) : Ct :=
  o_istore 4 <|
  o_iload 4 <|
  o_ifgt (bX5_isAhead_110 E Q) <|
  o_iload 4 <|
  o_ifne (bX5_isAhead_114 E Q) <|
  o_iload 2 <|
  o_iload 3 <|
  o_icmpge (bX5_isAhead_114 E Q) <|
  (bX5_isAhead_110 E Q)
def bX5_isAhead_70 (E : Nat → Value) (Q : Rs → HS → Prop) : Ct :=
  o_aload 0 <|
  o_getf [8] 7 <|
  o_iload 1 <|
  o_iload 3 <|
  o_push (.int 1) <|
  o_call 3 (wX5_of E) (x_out Q) <|
  o_ald [100] <|
  o_aload 0 <|
  o_getf [8] 7 <|
  o_iload 1 <|
  o_iload 2 <|
  o_push (.int 1) <|
  o_call 3 (wX5_of E) (x_out Q) <|
  o_ald [100] <|
  o_isub <|
  (bX5_isAhead_93 E Q)
def bX5_isAhead_58 (E : Nat → Value) (Q : Rs → HS → Prop) : Ct :=
  o_istore 4 <|
  o_iload 4 <|
  o_ifeq (bX5_isAhead_70 E Q) <|
  o_iload 4 <|
  (bX5_isAhead_93 E Q)
def bX5_isAhead_35 (E : Nat → Value) (Q : Rs → HS → Prop) : Ct :=
  o_aload 0 <|
  o_getf [8] 7 <|
  o_iload 1 <|
  o_iload 3 <|
  o_push (.int 0) <|
  o_call 3 (wX5_of E) (x_out Q) <|
  o_ald [100] <|
  o_aload 0 <|
  o_getf [8] 7 <|
  o_iload 1 <|
  o_iload 2 <|
  o_push (.int 0) <|
  o_call 3 (wX5_of E) (x_out Q) <|
  o_ald [100] <|
  o_isub <|
  (bX5_isAhead_58 E Q)
def bX5_isAhead_0 (E : Nat → Value) (Q : Rs → HS → Prop) : Ct :=
  o_aload 0 <|
  o_getf [8] 7 <|
  o_iload 1 <|
  o_iload 2 <|
  o_push (.int 4) <|
  o_call 3 (wX5_of E) (x_out Q) <|
  o_ald [100] <|
  o_aload 0 <|
  o_getf [8] 7 <|
  o_iload 1 <|
  o_iload 3 <|
  o_push (.int 4) <|
  o_call 3 (wX5_of E) (x_out Q) <|
  o_ald [100] <|
  o_isub <|
  o_istore 4 <|
  o_iload 4 <|
  o_ifeq (bX5_isAhead_35 E Q) <|
  o_iload 4 <|
  (bX5_isAhead_58 E Q)
def wX5_isAhead (E : Nat → Value) : Wp := fun av h Q => match av with
  | [a0, a1, a2, a3] => bX5_isAhead_0 E Q [a0, a1, a2, a3, jk] [] h
  | _ => False
set_option maxHeartbeats 4000000 in
theorem tX5_isAhead_115 {x : CX} {E : Nat → Value} {Q : Rs → HS → Prop} (EN : EX x E) (G : Gd x cX5_isAhead "ChantRulesModel" yX5_isAhead 5 (Option.some Jvm.ClassFile.FieldType.boolean) Q) (hF : x.1.2.2.2.frames = 3 ∧ x.1.2.2.2.locals = 86) (hC : x.2.2.2.2.2 = (fun _ => false)) (hxt : (∀ z ∈ x.2.2.1.2.1.exceptionTable.toList, False)) : Snd x 115 (bX5_isAhead_115 E Q) := by
  unfold bX5_isAhead_115
  exact s_ireturn G dX5_isAhead_115
set_option maxHeartbeats 4000000 in
theorem tX5_isAhead_114 {x : CX} {E : Nat → Value} {Q : Rs → HS → Prop} (EN : EX x E) (G : Gd x cX5_isAhead "ChantRulesModel" yX5_isAhead 5 (Option.some Jvm.ClassFile.FieldType.boolean) Q) (hF : x.1.2.2.2.frames = 3 ∧ x.1.2.2.2.locals = 86) (hC : x.2.2.2.2.2 = (fun _ => false)) (hxt : (∀ z ∈ x.2.2.1.2.1.exceptionTable.toList, False)) : Snd x 114 (bX5_isAhead_114 E Q) := by
  unfold bX5_isAhead_114
  refine s_iconst (by decide) G.b dX5_isAhead_114 ?_
  exact (tX5_isAhead_115 EN G hF hC hxt)
set_option maxHeartbeats 4000000 in
theorem tX5_isAhead_110 {x : CX} {E : Nat → Value} {Q : Rs → HS → Prop} (EN : EX x E) (G : Gd x cX5_isAhead "ChantRulesModel" yX5_isAhead 5 (Option.some Jvm.ClassFile.FieldType.boolean) Q) (hF : x.1.2.2.2.frames = 3 ∧ x.1.2.2.2.locals = 86) (hC : x.2.2.2.2.2 = (fun _ => false)) (hxt : (∀ z ∈ x.2.2.1.2.1.exceptionTable.toList, False)) : Snd x 110 (bX5_isAhead_110 E Q) := by
  unfold bX5_isAhead_110
  refine s_iconst (by decide) G.b dX5_isAhead_110 ?_
  exact s_goto (tgt := 115) G.b dX5_isAhead_111 (by decide) (tX5_isAhead_115 EN G hF hC hxt)
set_option maxHeartbeats 4000000 in
theorem tX5_isAhead_93 {x : CX} {E : Nat → Value} {Q : Rs → HS → Prop} (EN : EX x E) (G : Gd x cX5_isAhead "ChantRulesModel" yX5_isAhead 5 (Option.some Jvm.ClassFile.FieldType.boolean) Q) (hF : x.1.2.2.2.frames = 3 ∧ x.1.2.2.2.locals = 86) (hC : x.2.2.2.2.2 = (fun _ => false)) (hxt : (∀ z ∈ x.2.2.1.2.1.exceptionTable.toList, False)) : Snd x 93 (bX5_isAhead_93 E Q) := by
  unfold bX5_isAhead_93
  refine s_istore G.b (by rw [G.nl]; decide) (fun _ _ => by rw [hC]) dX5_isAhead_93 ?_
  refine s_iload G.b dX5_isAhead_95 ?_
  refine s_ifgt (tgt := 110) G.b dX5_isAhead_97 (by decide) (tX5_isAhead_110 EN G hF hC hxt) ?_
  refine s_iload G.b dX5_isAhead_100 ?_
  refine s_ifne (tgt := 114) G.b dX5_isAhead_102 (by decide) (tX5_isAhead_114 EN G hF hC hxt) ?_
  refine s_iload_n rfl G.b dX5_isAhead_105 ?_
  refine s_iload_n rfl G.b dX5_isAhead_106 ?_
  refine s_icmpge (tgt := 114) G.b dX5_isAhead_107 (by decide) (tX5_isAhead_114 EN G hF hC hxt) ?_
  exact (tX5_isAhead_110 EN G hF hC hxt)
set_option maxHeartbeats 4000000 in
theorem tX5_isAhead_70 {x : CX} {E : Nat → Value} {Q : Rs → HS → Prop} (EN : EX x E) (G : Gd x cX5_isAhead "ChantRulesModel" yX5_isAhead 5 (Option.some Jvm.ClassFile.FieldType.boolean) Q) (hF : x.1.2.2.2.frames = 3 ∧ x.1.2.2.2.locals = 86) (hC : x.2.2.2.2.2 = (fun _ => false)) (hxt : (∀ z ∈ x.2.2.1.2.1.exceptionTable.toList, False)) : Snd x 70 (bX5_isAhead_70 E Q) := by
  unfold bX5_isAhead_70
  refine s_aload_n rfl G.b dX5_isAhead_70 ?_
  refine s_getf G.b G.ow G.kn (G.hts _ q1910) (fun _ h => h) fa_73 dX5_isAhead_71 ?_
  refine s_iload_n rfl G.b dX5_isAhead_74 ?_
  refine s_iload_n rfl G.b dX5_isAhead_75 ?_
  refine s_iconst (by decide) G.b dX5_isAhead_76 ?_
  refine s_callS G (mX5_of EN) q2079 q2080 q90 q2081 nmk_248 (rm_of hF (Nat.le_of_ble_eq_true rfl) (Nat.le_of_ble_eq_true rfl)) dX5_isAhead_77 ?_ (sx_out G (fun z hz => (hxt z hz).elim))
  refine s_iald G.b G.kn dX5_isAhead_80 ?_
  refine s_aload_n rfl G.b dX5_isAhead_81 ?_
  refine s_getf G.b G.ow G.kn (G.hts _ q1910) (fun _ h => h) fa_73 dX5_isAhead_82 ?_
  refine s_iload_n rfl G.b dX5_isAhead_85 ?_
  refine s_iload_n rfl G.b dX5_isAhead_86 ?_
  refine s_iconst (by decide) G.b dX5_isAhead_87 ?_
  refine s_callS G (mX5_of EN) q2079 q2080 q90 q2081 nmk_248 (rm_of hF (Nat.le_of_ble_eq_true rfl) (Nat.le_of_ble_eq_true rfl)) dX5_isAhead_88 ?_ (sx_out G (fun z hz => (hxt z hz).elim))
  refine s_iald G.b G.kn dX5_isAhead_91 ?_
  refine s_isub G.b dX5_isAhead_92 ?_
  exact (tX5_isAhead_93 EN G hF hC hxt)
set_option maxHeartbeats 4000000 in
theorem tX5_isAhead_58 {x : CX} {E : Nat → Value} {Q : Rs → HS → Prop} (EN : EX x E) (G : Gd x cX5_isAhead "ChantRulesModel" yX5_isAhead 5 (Option.some Jvm.ClassFile.FieldType.boolean) Q) (hF : x.1.2.2.2.frames = 3 ∧ x.1.2.2.2.locals = 86) (hC : x.2.2.2.2.2 = (fun _ => false)) (hxt : (∀ z ∈ x.2.2.1.2.1.exceptionTable.toList, False)) : Snd x 58 (bX5_isAhead_58 E Q) := by
  unfold bX5_isAhead_58
  refine s_istore G.b (by rw [G.nl]; decide) (fun _ _ => by rw [hC]) dX5_isAhead_58 ?_
  refine s_iload G.b dX5_isAhead_60 ?_
  refine s_ifeq (tgt := 70) G.b dX5_isAhead_62 (by decide) (tX5_isAhead_70 EN G hF hC hxt) ?_
  refine s_iload G.b dX5_isAhead_65 ?_
  exact s_goto (tgt := 93) G.b dX5_isAhead_67 (by decide) (tX5_isAhead_93 EN G hF hC hxt)
set_option maxHeartbeats 4000000 in
theorem tX5_isAhead_35 {x : CX} {E : Nat → Value} {Q : Rs → HS → Prop} (EN : EX x E) (G : Gd x cX5_isAhead "ChantRulesModel" yX5_isAhead 5 (Option.some Jvm.ClassFile.FieldType.boolean) Q) (hF : x.1.2.2.2.frames = 3 ∧ x.1.2.2.2.locals = 86) (hC : x.2.2.2.2.2 = (fun _ => false)) (hxt : (∀ z ∈ x.2.2.1.2.1.exceptionTable.toList, False)) : Snd x 35 (bX5_isAhead_35 E Q) := by
  unfold bX5_isAhead_35
  refine s_aload_n rfl G.b dX5_isAhead_35 ?_
  refine s_getf G.b G.ow G.kn (G.hts _ q1910) (fun _ h => h) fa_73 dX5_isAhead_36 ?_
  refine s_iload_n rfl G.b dX5_isAhead_39 ?_
  refine s_iload_n rfl G.b dX5_isAhead_40 ?_
  refine s_iconst (by decide) G.b dX5_isAhead_41 ?_
  refine s_callS G (mX5_of EN) q2079 q2080 q90 q2081 nmk_248 (rm_of hF (Nat.le_of_ble_eq_true rfl) (Nat.le_of_ble_eq_true rfl)) dX5_isAhead_42 ?_ (sx_out G (fun z hz => (hxt z hz).elim))
  refine s_iald G.b G.kn dX5_isAhead_45 ?_
  refine s_aload_n rfl G.b dX5_isAhead_46 ?_
  refine s_getf G.b G.ow G.kn (G.hts _ q1910) (fun _ h => h) fa_73 dX5_isAhead_47 ?_
  refine s_iload_n rfl G.b dX5_isAhead_50 ?_
  refine s_iload_n rfl G.b dX5_isAhead_51 ?_
  refine s_iconst (by decide) G.b dX5_isAhead_52 ?_
  refine s_callS G (mX5_of EN) q2079 q2080 q90 q2081 nmk_248 (rm_of hF (Nat.le_of_ble_eq_true rfl) (Nat.le_of_ble_eq_true rfl)) dX5_isAhead_53 ?_ (sx_out G (fun z hz => (hxt z hz).elim))
  refine s_iald G.b G.kn dX5_isAhead_56 ?_
  refine s_isub G.b dX5_isAhead_57 ?_
  exact (tX5_isAhead_58 EN G hF hC hxt)
set_option maxHeartbeats 4000000 in
theorem tX5_isAhead_0 {x : CX} {E : Nat → Value} {Q : Rs → HS → Prop} (EN : EX x E) (G : Gd x cX5_isAhead "ChantRulesModel" yX5_isAhead 5 (Option.some Jvm.ClassFile.FieldType.boolean) Q) (hF : x.1.2.2.2.frames = 3 ∧ x.1.2.2.2.locals = 86) (hC : x.2.2.2.2.2 = (fun _ => false)) (hxt : (∀ z ∈ x.2.2.1.2.1.exceptionTable.toList, False)) : Snd x 0 (bX5_isAhead_0 E Q) := by
  unfold bX5_isAhead_0
  refine s_aload_n rfl G.b dX5_isAhead_0 ?_
  refine s_getf G.b G.ow G.kn (G.hts _ q1910) (fun _ h => h) fa_73 dX5_isAhead_1 ?_
  refine s_iload_n rfl G.b dX5_isAhead_4 ?_
  refine s_iload_n rfl G.b dX5_isAhead_5 ?_
  refine s_iconst (by decide) G.b dX5_isAhead_6 ?_
  refine s_callS G (mX5_of EN) q2079 q2080 q90 q2081 nmk_248 (rm_of hF (Nat.le_of_ble_eq_true rfl) (Nat.le_of_ble_eq_true rfl)) dX5_isAhead_7 ?_ (sx_out G (fun z hz => (hxt z hz).elim))
  refine s_iald G.b G.kn dX5_isAhead_10 ?_
  refine s_aload_n rfl G.b dX5_isAhead_11 ?_
  refine s_getf G.b G.ow G.kn (G.hts _ q1910) (fun _ h => h) fa_73 dX5_isAhead_12 ?_
  refine s_iload_n rfl G.b dX5_isAhead_15 ?_
  refine s_iload_n rfl G.b dX5_isAhead_16 ?_
  refine s_iconst (by decide) G.b dX5_isAhead_17 ?_
  refine s_callS G (mX5_of EN) q2079 q2080 q90 q2081 nmk_248 (rm_of hF (Nat.le_of_ble_eq_true rfl) (Nat.le_of_ble_eq_true rfl)) dX5_isAhead_18 ?_ (sx_out G (fun z hz => (hxt z hz).elim))
  refine s_iald G.b G.kn dX5_isAhead_21 ?_
  refine s_isub G.b dX5_isAhead_22 ?_
  refine s_istore G.b (by rw [G.nl]; decide) (fun _ _ => by rw [hC]) dX5_isAhead_23 ?_
  refine s_iload G.b dX5_isAhead_25 ?_
  refine s_ifeq (tgt := 35) G.b dX5_isAhead_27 (by decide) (tX5_isAhead_35 EN G hF hC hxt) ?_
  refine s_iload G.b dX5_isAhead_30 ?_
  exact s_goto (tgt := 58) G.b dX5_isAhead_32 (by decide) (tX5_isAhead_58 EN G hF hC hxt)
set_option maxHeartbeats 4000000 in
theorem mX5_isAhead {l : Launch} {D : DE} {s0 : State} {E : Nat → Value} (EN : EV l D s0 E) : rMet l D s0 yX5_isAhead (ws_ yX5_isAhead cX5_isAhead 5 (Option.some Jvm.ClassFile.FieldType.boolean)) 3 86 (wX5_isAhead E) := by
  refine body_met (fun _ => false) EN.kn (fun w h => h) (by decide +kernel) rfl (fun av h Q hw => ?_) ?_
  · unfold wX5_isAhead at hw
    split at hw
    · exact Nat.le_of_ble_eq_true rfl
    · exact hw.elim
  · intro p e s m below meth c av h Q hxt G hw
    unfold wX5_isAhead at hw
    split at hw
    · exact tX5_isAhead_0 EN G ⟨rfl, rfl⟩ rfl hxt _ _ _ hw
    · exact hw.elim
/-! ChantRulesModel.ranked(II)I (X5_ranked) -/
theorem nmk_280 : nm_ok yX5_isAhead 3 := ⟨by decide +kernel, by decide +kernel, by decide +kernel⟩
def bX5_ranked_90 (E : Nat → Value) (Q : Rs → HS → Prop) (X12 X30 : Ct) : Ct :=
  o_push (.int (-11)) <|
  o_ireturn .int Q
def bX5_ranked_84 (E : Nat → Value) (Q : Rs → HS → Prop) (X12 X30 : Ct) : Ct :=
  o_iinc 3 1 <|
  X12
def bX5_ranked_76 (E : Nat → Value) (Q : Rs → HS → Prop) (X12 X30 : Ct) : Ct :=
  o_iload 4 <|
  o_iload 2 <|
  o_icmpne (bX5_ranked_84 E Q X12 X30) <|
  o_iload 3 <|
  o_ireturn .int Q
def bX5_ranked_67 (E : Nat → Value) (Q : Rs → HS → Prop) (X12 X30 : Ct) : Ct :=
  o_iadd <|
  o_istore 4 <|
  o_iinc 5 1 <|
  X30
def bX5_ranked_66 (E : Nat → Value) (Q : Rs → HS → Prop) (X12 X30 : Ct) : Ct :=
  o_push (.int 0) <|
  (bX5_ranked_67 E Q X12 X30)
def bX5_ranked_30 (E : Nat → Value) (Q : Rs → HS → Prop) (X12 X30 : Ct) : Ct :=
  o_iload 5 <|
  o_aload 0 <|
  o_getf [8] 7 <|
  o_push (.int 2) <|
  o_iload 1 <|
  o_iadd <|
  o_ald [100] <|
  o_icmpge (bX5_ranked_76 E Q X12 X30) <|
  o_iload 4 <|
  o_iload 5 <|
  o_iload 3 <|
  o_icmpeq (bX5_ranked_66 E Q X12 X30) <|
  o_aload 0 <|
  o_iload 1 <|
  o_iload 5 <|
  o_iload 3 <|
  o_callV [8] 4 (wX5_isAhead E) (x_out Q) <|
  o_ifeq (bX5_ranked_66 E Q X12 X30) <|
  o_push (.int 1) <|
  (bX5_ranked_67 E Q X12 X30)
def bX5_ranked_12 (E : Nat → Value) (Q : Rs → HS → Prop) (X12 X30 : Ct) : Ct :=
  o_iload 3 <|
  o_aload 0 <|
  o_getf [8] 7 <|
  o_push (.int 2) <|
  o_iload 1 <|
  o_iadd <|
  o_ald [100] <|
  o_icmpge (bX5_ranked_90 E Q X12 X30) <|
  o_push (.int 0) <|
  o_istore 4 <|
  o_push (.int 0) <|
  o_istore 5 <|
  X30
def bX5_ranked_10 (E : Nat → Value) (Q : Rs → HS → Prop) (X12 X30 : Ct) : Ct :=
  o_push (.int 0) <|
  o_istore 3 <|
  X12
def bX5_ranked_0 (E : Nat → Value) (Q : Rs → HS → Prop) (X12 X30 : Ct) : Ct :=
  o_iload 1 <|
  o_call 1 (wX5_isRule E) (x_out Q) <|
  o_ifne (bX5_ranked_10 E Q X12 X30) <|
  o_push (.int (-11)) <|
  o_ireturn .int Q
def wX5_ranked (E : Nat → Value) : Wp := fun av h Q => match av with
  | [a0, a1, a2] => ∀ X12 X30 : Ct, (∀ ls st h, bX5_ranked_12 E Q X12 X30 ls st h → X12 ls st h) → (∀ ls st h, bX5_ranked_30 E Q X12 X30 ls st h → X30 ls st h) → bX5_ranked_0 E Q X12 X30 [a0, a1, a2, jk, jk, jk] [] h
  | _ => False
set_option maxHeartbeats 4000000 in
theorem tX5_ranked_90 {x : CX} {E : Nat → Value} {Q : Rs → HS → Prop} {X12 X30 : Ct} (EN : EX x E) (G : Gd x cX5_ranked "ChantRulesModel" yX5_ranked 6 (Option.some Jvm.ClassFile.FieldType.int) Q) (hF : x.1.2.2.2.frames = 4 ∧ x.1.2.2.2.locals = 110) (hC : x.2.2.2.2.2 = (fun _ => false)) (hxt : (∀ z ∈ x.2.2.1.2.1.exceptionTable.toList, False)) (h12 : Snd x 12 X12) (h30 : Snd x 30 X30) : Snd x 90 (bX5_ranked_90 E Q X12 X30) := by
  unfold bX5_ranked_90
  refine s_bipush (by decide) G.b dX5_ranked_90 ?_
  exact s_ireturn G dX5_ranked_92
set_option maxHeartbeats 4000000 in
theorem tX5_ranked_84 {x : CX} {E : Nat → Value} {Q : Rs → HS → Prop} {X12 X30 : Ct} (EN : EX x E) (G : Gd x cX5_ranked "ChantRulesModel" yX5_ranked 6 (Option.some Jvm.ClassFile.FieldType.int) Q) (hF : x.1.2.2.2.frames = 4 ∧ x.1.2.2.2.locals = 110) (hC : x.2.2.2.2.2 = (fun _ => false)) (hxt : (∀ z ∈ x.2.2.1.2.1.exceptionTable.toList, False)) (h12 : Snd x 12 X12) (h30 : Snd x 30 X30) : Snd x 84 (bX5_ranked_84 E Q X12 X30) := by
  unfold bX5_ranked_84
  refine s_iinc (by decide) G.b (by rw [G.nl]; decide) (fun _ _ => by rw [hC]) dX5_ranked_84 ?_
  exact s_goto (tgt := 12) G.b dX5_ranked_87 (by decide) h12
set_option maxHeartbeats 4000000 in
theorem tX5_ranked_76 {x : CX} {E : Nat → Value} {Q : Rs → HS → Prop} {X12 X30 : Ct} (EN : EX x E) (G : Gd x cX5_ranked "ChantRulesModel" yX5_ranked 6 (Option.some Jvm.ClassFile.FieldType.int) Q) (hF : x.1.2.2.2.frames = 4 ∧ x.1.2.2.2.locals = 110) (hC : x.2.2.2.2.2 = (fun _ => false)) (hxt : (∀ z ∈ x.2.2.1.2.1.exceptionTable.toList, False)) (h12 : Snd x 12 X12) (h30 : Snd x 30 X30) : Snd x 76 (bX5_ranked_76 E Q X12 X30) := by
  unfold bX5_ranked_76
  refine s_iload G.b dX5_ranked_76 ?_
  refine s_iload_n rfl G.b dX5_ranked_78 ?_
  refine s_icmpne (tgt := 84) G.b dX5_ranked_79 (by decide) (tX5_ranked_84 EN G hF hC hxt h12 h30) ?_
  refine s_iload_n rfl G.b dX5_ranked_82 ?_
  exact s_ireturn G dX5_ranked_83
set_option maxHeartbeats 4000000 in
theorem tX5_ranked_67 {x : CX} {E : Nat → Value} {Q : Rs → HS → Prop} {X12 X30 : Ct} (EN : EX x E) (G : Gd x cX5_ranked "ChantRulesModel" yX5_ranked 6 (Option.some Jvm.ClassFile.FieldType.int) Q) (hF : x.1.2.2.2.frames = 4 ∧ x.1.2.2.2.locals = 110) (hC : x.2.2.2.2.2 = (fun _ => false)) (hxt : (∀ z ∈ x.2.2.1.2.1.exceptionTable.toList, False)) (h12 : Snd x 12 X12) (h30 : Snd x 30 X30) : Snd x 67 (bX5_ranked_67 E Q X12 X30) := by
  unfold bX5_ranked_67
  refine s_iadd G.b dX5_ranked_67 ?_
  refine s_istore G.b (by rw [G.nl]; decide) (fun _ _ => by rw [hC]) dX5_ranked_68 ?_
  refine s_iinc (by decide) G.b (by rw [G.nl]; decide) (fun _ _ => by rw [hC]) dX5_ranked_70 ?_
  exact s_goto (tgt := 30) G.b dX5_ranked_73 (by decide) h30
set_option maxHeartbeats 4000000 in
theorem tX5_ranked_66 {x : CX} {E : Nat → Value} {Q : Rs → HS → Prop} {X12 X30 : Ct} (EN : EX x E) (G : Gd x cX5_ranked "ChantRulesModel" yX5_ranked 6 (Option.some Jvm.ClassFile.FieldType.int) Q) (hF : x.1.2.2.2.frames = 4 ∧ x.1.2.2.2.locals = 110) (hC : x.2.2.2.2.2 = (fun _ => false)) (hxt : (∀ z ∈ x.2.2.1.2.1.exceptionTable.toList, False)) (h12 : Snd x 12 X12) (h30 : Snd x 30 X30) : Snd x 66 (bX5_ranked_66 E Q X12 X30) := by
  unfold bX5_ranked_66
  refine s_iconst (by decide) G.b dX5_ranked_66 ?_
  exact (tX5_ranked_67 EN G hF hC hxt h12 h30)
set_option maxHeartbeats 4000000 in
theorem tX5_ranked_30 {x : CX} {E : Nat → Value} {Q : Rs → HS → Prop} {X12 X30 : Ct} (EN : EX x E) (G : Gd x cX5_ranked "ChantRulesModel" yX5_ranked 6 (Option.some Jvm.ClassFile.FieldType.int) Q) (hF : x.1.2.2.2.frames = 4 ∧ x.1.2.2.2.locals = 110) (hC : x.2.2.2.2.2 = (fun _ => false)) (hxt : (∀ z ∈ x.2.2.1.2.1.exceptionTable.toList, False)) (h12 : Snd x 12 X12) (h30 : Snd x 30 X30) : Snd x 30 (bX5_ranked_30 E Q X12 X30) := by
  unfold bX5_ranked_30
  refine s_iload G.b dX5_ranked_30 ?_
  refine s_aload_n rfl G.b dX5_ranked_32 ?_
  refine s_getf G.b G.ow G.kn (G.hts _ q1910) (fun _ h => h) fa_73 dX5_ranked_33 ?_
  refine s_iconst (by decide) G.b dX5_ranked_36 ?_
  refine s_iload_n rfl G.b dX5_ranked_37 ?_
  refine s_iadd G.b dX5_ranked_38 ?_
  refine s_iald G.b G.kn dX5_ranked_39 ?_
  refine s_icmpge (tgt := 76) G.b dX5_ranked_40 (by decide) (tX5_ranked_76 EN G hF hC hxt h12 h30) ?_
  refine s_iload G.b dX5_ranked_43 ?_
  refine s_iload G.b dX5_ranked_45 ?_
  refine s_iload_n rfl G.b dX5_ranked_47 ?_
  refine s_icmpeq (tgt := 66) G.b dX5_ranked_48 (by decide) (tX5_ranked_66 EN G hF hC hxt h12 h30) ?_
  refine s_aload_n rfl G.b dX5_ranked_51 ?_
  refine s_iload_n rfl G.b dX5_ranked_52 ?_
  refine s_iload G.b dX5_ranked_53 ?_
  refine s_iload_n rfl G.b dX5_ranked_55 ?_
  refine s_callV G (mX5_isAhead EN) q2231 q2233 (sel_cons (r := (RX5, TX5, 37)) (by decide) rfl qs63 (sel_nil)) q90 q2234 nmk_280 (rm_of hF (Nat.le_of_ble_eq_true rfl) (Nat.le_of_ble_eq_true rfl)) dX5_ranked_56 ?_ (sx_out G (fun z hz => (hxt z hz).elim))
  refine s_ifeq (tgt := 66) G.b dX5_ranked_59 (by decide) (tX5_ranked_66 EN G hF hC hxt h12 h30) ?_
  refine s_iconst (by decide) G.b dX5_ranked_62 ?_
  exact s_goto (tgt := 67) G.b dX5_ranked_63 (by decide) (tX5_ranked_67 EN G hF hC hxt h12 h30)
set_option maxHeartbeats 4000000 in
theorem tX5_ranked_12 {x : CX} {E : Nat → Value} {Q : Rs → HS → Prop} {X12 X30 : Ct} (EN : EX x E) (G : Gd x cX5_ranked "ChantRulesModel" yX5_ranked 6 (Option.some Jvm.ClassFile.FieldType.int) Q) (hF : x.1.2.2.2.frames = 4 ∧ x.1.2.2.2.locals = 110) (hC : x.2.2.2.2.2 = (fun _ => false)) (hxt : (∀ z ∈ x.2.2.1.2.1.exceptionTable.toList, False)) (h12 : Snd x 12 X12) (h30 : Snd x 30 X30) : Snd x 12 (bX5_ranked_12 E Q X12 X30) := by
  unfold bX5_ranked_12
  refine s_iload_n rfl G.b dX5_ranked_12 ?_
  refine s_aload_n rfl G.b dX5_ranked_13 ?_
  refine s_getf G.b G.ow G.kn (G.hts _ q1910) (fun _ h => h) fa_73 dX5_ranked_14 ?_
  refine s_iconst (by decide) G.b dX5_ranked_17 ?_
  refine s_iload_n rfl G.b dX5_ranked_18 ?_
  refine s_iadd G.b dX5_ranked_19 ?_
  refine s_iald G.b G.kn dX5_ranked_20 ?_
  refine s_icmpge (tgt := 90) G.b dX5_ranked_21 (by decide) (tX5_ranked_90 EN G hF hC hxt h12 h30) ?_
  refine s_iconst (by decide) G.b dX5_ranked_24 ?_
  refine s_istore G.b (by rw [G.nl]; decide) (fun _ _ => by rw [hC]) dX5_ranked_25 ?_
  refine s_iconst (by decide) G.b dX5_ranked_27 ?_
  refine s_istore G.b (by rw [G.nl]; decide) (fun _ _ => by rw [hC]) dX5_ranked_28 ?_
  exact h30
set_option maxHeartbeats 4000000 in
theorem tX5_ranked_10 {x : CX} {E : Nat → Value} {Q : Rs → HS → Prop} {X12 X30 : Ct} (EN : EX x E) (G : Gd x cX5_ranked "ChantRulesModel" yX5_ranked 6 (Option.some Jvm.ClassFile.FieldType.int) Q) (hF : x.1.2.2.2.frames = 4 ∧ x.1.2.2.2.locals = 110) (hC : x.2.2.2.2.2 = (fun _ => false)) (hxt : (∀ z ∈ x.2.2.1.2.1.exceptionTable.toList, False)) (h12 : Snd x 12 X12) (h30 : Snd x 30 X30) : Snd x 10 (bX5_ranked_10 E Q X12 X30) := by
  unfold bX5_ranked_10
  refine s_iconst (by decide) G.b dX5_ranked_10 ?_
  refine s_istore_n rfl G.b (by rw [G.nl]; decide) (fun _ _ => by rw [hC]) dX5_ranked_11 ?_
  exact h12
set_option maxHeartbeats 4000000 in
theorem tX5_ranked_0 {x : CX} {E : Nat → Value} {Q : Rs → HS → Prop} {X12 X30 : Ct} (EN : EX x E) (G : Gd x cX5_ranked "ChantRulesModel" yX5_ranked 6 (Option.some Jvm.ClassFile.FieldType.int) Q) (hF : x.1.2.2.2.frames = 4 ∧ x.1.2.2.2.locals = 110) (hC : x.2.2.2.2.2 = (fun _ => false)) (hxt : (∀ z ∈ x.2.2.1.2.1.exceptionTable.toList, False)) (h12 : Snd x 12 X12) (h30 : Snd x 30 X30) : Snd x 0 (bX5_ranked_0 E Q X12 X30) := by
  unfold bX5_ranked_0
  refine s_iload_n rfl G.b dX5_ranked_0 ?_
  refine s_callS G (mX5_isRule EN) q2030 q2031 q90 q2032 nmk_253 (rm_of hF (Nat.le_of_ble_eq_true rfl) (Nat.le_of_ble_eq_true rfl)) dX5_ranked_1 ?_ (sx_out G (fun z hz => (hxt z hz).elim))
  refine s_ifne (tgt := 10) G.b dX5_ranked_4 (by decide) (tX5_ranked_10 EN G hF hC hxt h12 h30) ?_
  refine s_bipush (by decide) G.b dX5_ranked_7 ?_
  exact s_ireturn G dX5_ranked_9
set_option maxHeartbeats 4000000 in
theorem mX5_ranked {l : Launch} {D : DE} {s0 : State} {E : Nat → Value} (EN : EV l D s0 E) : rMet l D s0 yX5_ranked (ws_ yX5_ranked cX5_ranked 6 (Option.some Jvm.ClassFile.FieldType.int)) 4 110 (wX5_ranked E) := by
  refine body_met (fun _ => false) EN.kn (fun w h => h) (by decide +kernel) rfl (fun av h Q hw => ?_) ?_
  · unfold wX5_ranked at hw
    split at hw
    · exact Nat.le_of_ble_eq_true rfl
    · exact hw.elim
  · intro p e s m below meth c av h Q hxt G hw
    unfold wX5_ranked at hw
    split at hw
    · exact tX5_ranked_0 EN G ⟨rfl, rfl⟩ rfl hxt (fun _ _ _ h => h) (fun _ _ _ h => h) _ _ _ (hw (AW _ 12) (AW _ 30) (tX5_ranked_12 EN G ⟨rfl, rfl⟩ rfl hxt (fun _ _ _ h => h) (fun _ _ _ h => h)) (tX5_ranked_30 EN G ⟨rfl, rfl⟩ rfl hxt (fun _ _ _ h => h) (fun _ _ _ h => h)))
    · exact hw.elim
/-! ChantRulesModel.reason(ZZ)I (X5_reason) -/
theorem fa_104 : fieldAt [8] 5 "ChantRulesModel" "behindDetail" "I" := fa_cons (r := (RX5, TX5, 37)) rfl (by decide) rfl rfl rfl (fa_nil)
def bX5_reason_53 (E : Nat → Value) (Q : Rs → HS → Prop) : Ct :=
  o_ireturn .int Q
def bX5_reason_49 (E : Nat → Value) (Q : Rs → HS → Prop) : Ct :=
  o_aload 0 <|
  o_getf [8] 3 <|
  (bX5_reason_53 E Q)
def bX5_reason_38 (E : Nat → Value) (Q : Rs → HS → Prop) : Ct :=
  o_iload 1 <|
  o_ifeq (bX5_reason_49 E Q) <|
  o_aload 0 <|
  o_getf [8] 5 <|
  (bX5_reason_53 E Q)
def bX5_reason_30 (E : Nat → Value) (Q : Rs → HS → Prop) : Ct :=
  o_iload 2 <|
  o_ifne (bX5_reason_38 E Q) <|
  o_iload 3 <|
  (bX5_reason_53 E Q)
def bX5_reason_27 (E : Nat → Value) (Q : Rs → HS → Prop) : Ct :=
  o_push (.int (-15)) <|
  o_ireturn .int Q
def bX5_reason_15 (E : Nat → Value) (Q : Rs → HS → Prop) : Ct :=
  o_istore 3 <|
  o_aload 0 <|
  o_getf [8] 2 <|
  o_ifeq (bX5_reason_27 E Q) <|
  o_iload 3 <|
  o_ifne (bX5_reason_30 E Q) <|
  (bX5_reason_27 E Q)
def bX5_reason_11 (E : Nat → Value) (Q : Rs → HS → Prop) : Ct :=
  o_aload 0 <|
  o_getf [8] 2 <|
  (bX5_reason_15 E Q)
def bX5_reason_0 (E : Nat → Value) (Q : Rs → HS → Prop) : Ct :=
  o_iload 1 <|
  o_ifeq (bX5_reason_11 E Q) <|
  o_aload 0 <|
  o_getf [8] 4 <|
  (bX5_reason_15 E Q)
def wX5_reason (E : Nat → Value) : Wp := fun av h Q => match av with
  | [a0, a1, a2] => bX5_reason_0 E Q [a0, a1, a2, jk] [] h
  | _ => False
set_option maxHeartbeats 4000000 in
theorem tX5_reason_53 {x : CX} {E : Nat → Value} {Q : Rs → HS → Prop} (EN : EX x E) (G : Gd x cX5_reason "ChantRulesModel" yX5_reason 4 (Option.some Jvm.ClassFile.FieldType.int) Q) (hF : x.1.2.2.2.frames = 2 ∧ x.1.2.2.2.locals = 64) (hC : x.2.2.2.2.2 = (fun _ => false)) (hxt : (∀ z ∈ x.2.2.1.2.1.exceptionTable.toList, False)) : Snd x 53 (bX5_reason_53 E Q) := by
  unfold bX5_reason_53
  exact s_ireturn G dX5_reason_53
set_option maxHeartbeats 4000000 in
theorem tX5_reason_49 {x : CX} {E : Nat → Value} {Q : Rs → HS → Prop} (EN : EX x E) (G : Gd x cX5_reason "ChantRulesModel" yX5_reason 4 (Option.some Jvm.ClassFile.FieldType.int) Q) (hF : x.1.2.2.2.frames = 2 ∧ x.1.2.2.2.locals = 64) (hC : x.2.2.2.2.2 = (fun _ => false)) (hxt : (∀ z ∈ x.2.2.1.2.1.exceptionTable.toList, False)) : Snd x 49 (bX5_reason_49 E Q) := by
  unfold bX5_reason_49
  refine s_aload_n rfl G.b dX5_reason_49 ?_
  refine s_getf G.b G.ow G.kn (G.hts _ q1906) (fun _ h => h) fa_97 dX5_reason_50 ?_
  exact (tX5_reason_53 EN G hF hC hxt)
set_option maxHeartbeats 4000000 in
theorem tX5_reason_38 {x : CX} {E : Nat → Value} {Q : Rs → HS → Prop} (EN : EX x E) (G : Gd x cX5_reason "ChantRulesModel" yX5_reason 4 (Option.some Jvm.ClassFile.FieldType.int) Q) (hF : x.1.2.2.2.frames = 2 ∧ x.1.2.2.2.locals = 64) (hC : x.2.2.2.2.2 = (fun _ => false)) (hxt : (∀ z ∈ x.2.2.1.2.1.exceptionTable.toList, False)) : Snd x 38 (bX5_reason_38 E Q) := by
  unfold bX5_reason_38
  refine s_iload_n rfl G.b dX5_reason_38 ?_
  refine s_ifeq (tgt := 49) G.b dX5_reason_39 (by decide) (tX5_reason_49 EN G hF hC hxt) ?_
  refine s_aload_n rfl G.b dX5_reason_42 ?_
  refine s_getf G.b G.ow G.kn (G.hts _ q1908) (fun _ h => h) fa_104 dX5_reason_43 ?_
  exact s_goto (tgt := 53) G.b dX5_reason_46 (by decide) (tX5_reason_53 EN G hF hC hxt)
set_option maxHeartbeats 4000000 in
theorem tX5_reason_30 {x : CX} {E : Nat → Value} {Q : Rs → HS → Prop} (EN : EX x E) (G : Gd x cX5_reason "ChantRulesModel" yX5_reason 4 (Option.some Jvm.ClassFile.FieldType.int) Q) (hF : x.1.2.2.2.frames = 2 ∧ x.1.2.2.2.locals = 64) (hC : x.2.2.2.2.2 = (fun _ => false)) (hxt : (∀ z ∈ x.2.2.1.2.1.exceptionTable.toList, False)) : Snd x 30 (bX5_reason_30 E Q) := by
  unfold bX5_reason_30
  refine s_iload_n rfl G.b dX5_reason_30 ?_
  refine s_ifne (tgt := 38) G.b dX5_reason_31 (by decide) (tX5_reason_38 EN G hF hC hxt) ?_
  refine s_iload_n rfl G.b dX5_reason_34 ?_
  exact s_goto (tgt := 53) G.b dX5_reason_35 (by decide) (tX5_reason_53 EN G hF hC hxt)
set_option maxHeartbeats 4000000 in
theorem tX5_reason_27 {x : CX} {E : Nat → Value} {Q : Rs → HS → Prop} (EN : EX x E) (G : Gd x cX5_reason "ChantRulesModel" yX5_reason 4 (Option.some Jvm.ClassFile.FieldType.int) Q) (hF : x.1.2.2.2.frames = 2 ∧ x.1.2.2.2.locals = 64) (hC : x.2.2.2.2.2 = (fun _ => false)) (hxt : (∀ z ∈ x.2.2.1.2.1.exceptionTable.toList, False)) : Snd x 27 (bX5_reason_27 E Q) := by
  unfold bX5_reason_27
  refine s_bipush (by decide) G.b dX5_reason_27 ?_
  exact s_ireturn G dX5_reason_29
set_option maxHeartbeats 4000000 in
theorem tX5_reason_15 {x : CX} {E : Nat → Value} {Q : Rs → HS → Prop} (EN : EX x E) (G : Gd x cX5_reason "ChantRulesModel" yX5_reason 4 (Option.some Jvm.ClassFile.FieldType.int) Q) (hF : x.1.2.2.2.frames = 2 ∧ x.1.2.2.2.locals = 64) (hC : x.2.2.2.2.2 = (fun _ => false)) (hxt : (∀ z ∈ x.2.2.1.2.1.exceptionTable.toList, False)) : Snd x 15 (bX5_reason_15 E Q) := by
  unfold bX5_reason_15
  refine s_istore_n rfl G.b (by rw [G.nl]; decide) (fun _ _ => by rw [hC]) dX5_reason_15 ?_
  refine s_aload_n rfl G.b dX5_reason_16 ?_
  refine s_getf G.b G.ow G.kn (G.hts _ q1905) (fun _ h => h) fa_96 dX5_reason_17 ?_
  refine s_ifeq (tgt := 27) G.b dX5_reason_20 (by decide) (tX5_reason_27 EN G hF hC hxt) ?_
  refine s_iload_n rfl G.b dX5_reason_23 ?_
  refine s_ifne (tgt := 30) G.b dX5_reason_24 (by decide) (tX5_reason_30 EN G hF hC hxt) ?_
  exact (tX5_reason_27 EN G hF hC hxt)
set_option maxHeartbeats 4000000 in
theorem tX5_reason_11 {x : CX} {E : Nat → Value} {Q : Rs → HS → Prop} (EN : EX x E) (G : Gd x cX5_reason "ChantRulesModel" yX5_reason 4 (Option.some Jvm.ClassFile.FieldType.int) Q) (hF : x.1.2.2.2.frames = 2 ∧ x.1.2.2.2.locals = 64) (hC : x.2.2.2.2.2 = (fun _ => false)) (hxt : (∀ z ∈ x.2.2.1.2.1.exceptionTable.toList, False)) : Snd x 11 (bX5_reason_11 E Q) := by
  unfold bX5_reason_11
  refine s_aload_n rfl G.b dX5_reason_11 ?_
  refine s_getf G.b G.ow G.kn (G.hts _ q1905) (fun _ h => h) fa_96 dX5_reason_12 ?_
  exact (tX5_reason_15 EN G hF hC hxt)
set_option maxHeartbeats 4000000 in
theorem tX5_reason_0 {x : CX} {E : Nat → Value} {Q : Rs → HS → Prop} (EN : EX x E) (G : Gd x cX5_reason "ChantRulesModel" yX5_reason 4 (Option.some Jvm.ClassFile.FieldType.int) Q) (hF : x.1.2.2.2.frames = 2 ∧ x.1.2.2.2.locals = 64) (hC : x.2.2.2.2.2 = (fun _ => false)) (hxt : (∀ z ∈ x.2.2.1.2.1.exceptionTable.toList, False)) : Snd x 0 (bX5_reason_0 E Q) := by
  unfold bX5_reason_0
  refine s_iload_n rfl G.b dX5_reason_0 ?_
  refine s_ifeq (tgt := 11) G.b dX5_reason_1 (by decide) (tX5_reason_11 EN G hF hC hxt) ?_
  refine s_aload_n rfl G.b dX5_reason_4 ?_
  refine s_getf G.b G.ow G.kn (G.hts _ q1907) (fun _ h => h) fa_98 dX5_reason_5 ?_
  exact s_goto (tgt := 15) G.b dX5_reason_8 (by decide) (tX5_reason_15 EN G hF hC hxt)
set_option maxHeartbeats 4000000 in
theorem mX5_reason {l : Launch} {D : DE} {s0 : State} {E : Nat → Value} (EN : EV l D s0 E) : rMet l D s0 yX5_reason (ws_ yX5_reason cX5_reason 4 (Option.some Jvm.ClassFile.FieldType.int)) 2 64 (wX5_reason E) := by
  refine body_met (fun _ => false) EN.kn (fun w h => h) (by decide +kernel) rfl (fun av h Q hw => ?_) ?_
  · unfold wX5_reason at hw
    split at hw
    · exact Nat.le_of_ble_eq_true rfl
    · exact hw.elim
  · intro p e s m below meth c av h Q hxt G hw
    unfold wX5_reason at hw
    split at hw
    · exact tX5_reason_0 EN G ⟨rfl, rfl⟩ rfl hxt _ _ _ hw
    · exact hw.elim
/-! ChantRulesModel.restore()I (X5_restore) -/
theorem fa_105 : fieldAt [8] 6 "ChantRulesModel" "isSaved" "Z" := fa_cons (r := (RX5, TX5, 37)) rfl (by decide) rfl rfl rfl (fa_nil)
def bX5_restore_10 (E : Nat → Value) (Q : Rs → HS → Prop) : Ct :=
  o_aload 0 <|
  o_getf [8] 7 <|
  o_aload 0 <|
  o_getf [8] 9 <|
  o_call 2 (wX5_lays E) (x_out Q) <|
  o_aload 0 <|
  o_push (.int 0) <|
  o_putf [8] 1 .int <|
  o_aload 0 <|
  o_getf [8] 7 <|
  o_push (.int 2) <|
  o_ald [100] <|
  o_aload 0 <|
  o_getf [8] 7 <|
  o_push (.int 3) <|
  o_ald [100] <|
  o_iadd <|
  o_ireturn .int Q
def bX5_restore_0 (E : Nat → Value) (Q : Rs → HS → Prop) : Ct :=
  o_aload 0 <|
  o_getf [8] 6 <|
  o_ifne (bX5_restore_10 E Q) <|
  o_push (.int (-15)) <|
  o_ireturn .int Q
def wX5_restore (E : Nat → Value) : Wp := fun av h Q => match av with
  | [a0] => bX5_restore_0 E Q [a0] [] h
  | _ => False
set_option maxHeartbeats 4000000 in
theorem tX5_restore_10 {x : CX} {E : Nat → Value} {Q : Rs → HS → Prop} (EN : EX x E) (G : Gd x cX5_restore "ChantRulesModel" yX5_restore 1 (Option.some Jvm.ClassFile.FieldType.int) Q) (hF : x.1.2.2.2.frames = 3 ∧ x.1.2.2.2.locals = 86) (hC : x.2.2.2.2.2 = (fun _ => false)) (hxt : (∀ z ∈ x.2.2.1.2.1.exceptionTable.toList, False)) : Snd x 10 (bX5_restore_10 E Q) := by
  unfold bX5_restore_10
  refine s_aload_n rfl G.b dX5_restore_10 ?_
  refine s_getf G.b G.ow G.kn (G.hts _ q1910) (fun _ h => h) fa_73 dX5_restore_11 ?_
  refine s_aload_n rfl G.b dX5_restore_14 ?_
  refine s_getf G.b G.ow G.kn (G.hts _ q1912) (fun _ h => h) fa_85 dX5_restore_15 ?_
  refine s_callS G (mX5_lays EN) q2023 q2024 q90 q2025 nmk_252 (rm_of hF (Nat.le_of_ble_eq_true rfl) (Nat.le_of_ble_eq_true rfl)) dX5_restore_18 ?_ (sx_out G (fun z hz => (hxt z hz).elim))
  refine s_aload_n rfl G.b dX5_restore_21 ?_
  refine s_iconst (by decide) G.b dX5_restore_22 ?_
  refine s_putf G.b G.ow G.kn (G.hts _ q1904) (fun _ h => h) fa_93 (la_cons (r := (RX5, TX5, 37)) G.hts (by decide) rfl q1942 (la_nil)) (by decide +kernel) dX5_restore_23 ?_
  refine s_aload_n rfl G.b dX5_restore_26 ?_
  refine s_getf G.b G.ow G.kn (G.hts _ q1910) (fun _ h => h) fa_73 dX5_restore_27 ?_
  refine s_iconst (by decide) G.b dX5_restore_30 ?_
  refine s_iald G.b G.kn dX5_restore_31 ?_
  refine s_aload_n rfl G.b dX5_restore_32 ?_
  refine s_getf G.b G.ow G.kn (G.hts _ q1910) (fun _ h => h) fa_73 dX5_restore_33 ?_
  refine s_iconst (by decide) G.b dX5_restore_36 ?_
  refine s_iald G.b G.kn dX5_restore_37 ?_
  refine s_iadd G.b dX5_restore_38 ?_
  exact s_ireturn G dX5_restore_39
set_option maxHeartbeats 4000000 in
theorem tX5_restore_0 {x : CX} {E : Nat → Value} {Q : Rs → HS → Prop} (EN : EX x E) (G : Gd x cX5_restore "ChantRulesModel" yX5_restore 1 (Option.some Jvm.ClassFile.FieldType.int) Q) (hF : x.1.2.2.2.frames = 3 ∧ x.1.2.2.2.locals = 86) (hC : x.2.2.2.2.2 = (fun _ => false)) (hxt : (∀ z ∈ x.2.2.1.2.1.exceptionTable.toList, False)) : Snd x 0 (bX5_restore_0 E Q) := by
  unfold bX5_restore_0
  refine s_aload_n rfl G.b dX5_restore_0 ?_
  refine s_getf G.b G.ow G.kn (G.hts _ q1909) (fun _ h => h) fa_105 dX5_restore_1 ?_
  refine s_ifne (tgt := 10) G.b dX5_restore_4 (by decide) (tX5_restore_10 EN G hF hC hxt) ?_
  refine s_bipush (by decide) G.b dX5_restore_7 ?_
  exact s_ireturn G dX5_restore_9
set_option maxHeartbeats 4000000 in
theorem mX5_restore {l : Launch} {D : DE} {s0 : State} {E : Nat → Value} (EN : EV l D s0 E) : rMet l D s0 yX5_restore (ws_ yX5_restore cX5_restore 1 (Option.some Jvm.ClassFile.FieldType.int)) 3 86 (wX5_restore E) := by
  refine body_met (fun _ => false) EN.kn (fun w h => h) (by decide +kernel) rfl (fun av h Q hw => ?_) ?_
  · unfold wX5_restore at hw
    split at hw
    · exact Nat.le_of_ble_eq_true rfl
    · exact hw.elim
  · intro p e s m below meth c av h Q hxt G hw
    unfold wX5_restore at hw
    split at hw
    · exact tX5_restore_0 EN G ⟨rfl, rfl⟩ rfl hxt _ _ _ hw
    · exact hw.elim
/-! ChantRulesModel.next()I (X5_next) -/
theorem fa_106 : fieldAt [8] 33 "ChantRulesModel" "here" "I" := fa_cons (r := (RX5, TX5, 37)) rfl (by decide) rfl rfl rfl (fa_nil)
theorem fa_107 : fieldAt [8] 34 "ChantRulesModel" "end" "I" := fa_cons (r := (RX5, TX5, 37)) rfl (by decide) rfl rfl rfl (fa_nil)
def bX5_next_24 (E : Nat → Value) (Q : Rs → HS → Prop) : Ct :=
  o_ireturn .int Q
def bX5_next_23 (E : Nat → Value) (Q : Rs → HS → Prop) : Ct :=
  o_push (.int (-1)) <|
  (bX5_next_24 E Q)
def bX5_next_0 (E : Nat → Value) (Q : Rs → HS → Prop) : Ct :=
  o_aload 0 <|
  o_getf [8] 33 <|
  o_aload 0 <|
  o_getf [8] 34 <|
  o_icmpge (bX5_next_23 E Q) <|
  o_aload 0 <|
  o_getf [8] 21 <|
  o_aload 0 <|
  o_getf [8] 33 <|
  o_ald [100] <|
  (bX5_next_24 E Q)
def wX5_next (E : Nat → Value) : Wp := fun av h Q => match av with
  | [a0] => bX5_next_0 E Q [a0] [] h
  | _ => False
set_option maxHeartbeats 4000000 in
theorem tX5_next_24 {x : CX} {E : Nat → Value} {Q : Rs → HS → Prop} (EN : EX x E) (G : Gd x cX5_next "ChantRulesModel" yX5_next 1 (Option.some Jvm.ClassFile.FieldType.int) Q) (hF : x.1.2.2.2.frames = 2 ∧ x.1.2.2.2.locals = 64) (hC : x.2.2.2.2.2 = (fun _ => false)) (hxt : (∀ z ∈ x.2.2.1.2.1.exceptionTable.toList, False)) : Snd x 24 (bX5_next_24 E Q) := by
  unfold bX5_next_24
  exact s_ireturn G dX5_next_24
set_option maxHeartbeats 4000000 in
theorem tX5_next_23 {x : CX} {E : Nat → Value} {Q : Rs → HS → Prop} (EN : EX x E) (G : Gd x cX5_next "ChantRulesModel" yX5_next 1 (Option.some Jvm.ClassFile.FieldType.int) Q) (hF : x.1.2.2.2.frames = 2 ∧ x.1.2.2.2.locals = 64) (hC : x.2.2.2.2.2 = (fun _ => false)) (hxt : (∀ z ∈ x.2.2.1.2.1.exceptionTable.toList, False)) : Snd x 23 (bX5_next_23 E Q) := by
  unfold bX5_next_23
  refine s_iconst (by decide) G.b dX5_next_23 ?_
  exact (tX5_next_24 EN G hF hC hxt)
set_option maxHeartbeats 4000000 in
theorem tX5_next_0 {x : CX} {E : Nat → Value} {Q : Rs → HS → Prop} (EN : EX x E) (G : Gd x cX5_next "ChantRulesModel" yX5_next 1 (Option.some Jvm.ClassFile.FieldType.int) Q) (hF : x.1.2.2.2.frames = 2 ∧ x.1.2.2.2.locals = 64) (hC : x.2.2.2.2.2 = (fun _ => false)) (hxt : (∀ z ∈ x.2.2.1.2.1.exceptionTable.toList, False)) : Snd x 0 (bX5_next_0 E Q) := by
  unfold bX5_next_0
  refine s_aload_n rfl G.b dX5_next_0 ?_
  refine s_getf G.b G.ow G.kn (G.hts _ q1936) (fun _ h => h) fa_106 dX5_next_1 ?_
  refine s_aload_n rfl G.b dX5_next_4 ?_
  refine s_getf G.b G.ow G.kn (G.hts _ q1937) (fun _ h => h) fa_107 dX5_next_5 ?_
  refine s_icmpge (tgt := 23) G.b dX5_next_8 (by decide) (tX5_next_23 EN G hF hC hxt) ?_
  refine s_aload_n rfl G.b dX5_next_11 ?_
  refine s_getf G.b G.ow G.kn (G.hts _ q1924) (fun _ h => h) fa_76 dX5_next_12 ?_
  refine s_aload_n rfl G.b dX5_next_15 ?_
  refine s_getf G.b G.ow G.kn (G.hts _ q1936) (fun _ h => h) fa_106 dX5_next_16 ?_
  refine s_iald G.b G.kn dX5_next_19 ?_
  exact s_goto (tgt := 24) G.b dX5_next_20 (by decide) (tX5_next_24 EN G hF hC hxt)
set_option maxHeartbeats 4000000 in
theorem mX5_next {l : Launch} {D : DE} {s0 : State} {E : Nat → Value} (EN : EV l D s0 E) : rMet l D s0 yX5_next (ws_ yX5_next cX5_next 1 (Option.some Jvm.ClassFile.FieldType.int)) 2 64 (wX5_next E) := by
  refine body_met (fun _ => false) EN.kn (fun w h => h) (by decide +kernel) rfl (fun av h Q hw => ?_) ?_
  · unfold wX5_next at hw
    split at hw
    · exact Nat.le_of_ble_eq_true rfl
    · exact hw.elim
  · intro p e s m below meth c av h Q hxt G hw
    unfold wX5_next at hw
    split at hw
    · exact tX5_next_0 EN G ⟨rfl, rfl⟩ rfl hxt _ _ _ hw
    · exact hw.elim
/-! ChantRulesModel.mark(I)V (X5_mark) -/
theorem fa_108 : fieldAt [8] 35 "ChantRulesModel" "isWrong" "Z" := fa_cons (r := (RX5, TX5, 37)) rfl (by decide) rfl rfl rfl (fa_nil)
theorem nmk_281 : nm_ok yX5_next 0 := ⟨by decide +kernel, by decide +kernel, by decide +kernel⟩
def bX5_mark_42 (E : Nat → Value) (Q : Rs → HS → Prop) : Ct :=
  o_iadd <|
  o_putf [8] 33 .int <|
  o_return Q
def bX5_mark_41 (E : Nat → Value) (Q : Rs → HS → Prop) : Ct :=
  o_push (.int 1) <|
  (bX5_mark_42 E Q)
def bX5_mark_22 (E : Nat → Value) (Q : Rs → HS → Prop) : Ct :=
  o_putf [8] 35 .boolean <|
  o_aload 0 <|
  o_dup <|
  o_getf [8] 33 <|
  o_aload 0 <|
  o_getf [8] 35 <|
  o_ifeq (bX5_mark_41 E Q) <|
  o_push (.int 0) <|
  (bX5_mark_42 E Q)
def bX5_mark_21 (E : Nat → Value) (Q : Rs → HS → Prop) : Ct :=
  o_push (.int 0) <|
  (bX5_mark_22 E Q)
def bX5_mark_8 (E : Nat → Value) (Q : Rs → HS → Prop) : Ct :=
  o_aload 0 <|
  o_aload 0 <|
  o_callV [8] 1 (wX5_next E) (x_out Q) <|
  o_iload 1 <|
  o_icmpeq (bX5_mark_21 E Q) <|
  o_push (.int 1) <|
  (bX5_mark_22 E Q)
def bX5_mark_0 (E : Nat → Value) (Q : Rs → HS → Prop) : Ct :=
  o_aload 0 <|
  o_getf [8] 35 <|
  o_ifeq (bX5_mark_8 E Q) <|
  o_return Q
def wX5_mark (E : Nat → Value) : Wp := fun av h Q => match av with
  | [a0, a1] => bX5_mark_0 E Q [a0, a1] [] h
  | _ => False
set_option maxHeartbeats 4000000 in
theorem tX5_mark_42 {x : CX} {E : Nat → Value} {Q : Rs → HS → Prop} (EN : EX x E) (G : Gd x cX5_mark "ChantRulesModel" yX5_mark 2 (Option.none : Option Jvm.ClassFile.FieldType) Q) (hF : x.1.2.2.2.frames = 3 ∧ x.1.2.2.2.locals = 84) (hC : x.2.2.2.2.2 = (fun _ => false)) (hxt : (∀ z ∈ x.2.2.1.2.1.exceptionTable.toList, False)) : Snd x 42 (bX5_mark_42 E Q) := by
  unfold bX5_mark_42
  refine s_iadd G.b dX5_mark_42 ?_
  refine s_putf G.b G.ow G.kn (G.hts _ q1936) (fun _ h => h) fa_106 (la_cons (r := (RX5, TX5, 37)) G.hts (by decide) rfl q2006 (la_nil)) (by decide +kernel) dX5_mark_43 ?_
  exact s_return G dX5_mark_46
set_option maxHeartbeats 4000000 in
theorem tX5_mark_41 {x : CX} {E : Nat → Value} {Q : Rs → HS → Prop} (EN : EX x E) (G : Gd x cX5_mark "ChantRulesModel" yX5_mark 2 (Option.none : Option Jvm.ClassFile.FieldType) Q) (hF : x.1.2.2.2.frames = 3 ∧ x.1.2.2.2.locals = 84) (hC : x.2.2.2.2.2 = (fun _ => false)) (hxt : (∀ z ∈ x.2.2.1.2.1.exceptionTable.toList, False)) : Snd x 41 (bX5_mark_41 E Q) := by
  unfold bX5_mark_41
  refine s_iconst (by decide) G.b dX5_mark_41 ?_
  exact (tX5_mark_42 EN G hF hC hxt)
set_option maxHeartbeats 4000000 in
theorem tX5_mark_22 {x : CX} {E : Nat → Value} {Q : Rs → HS → Prop} (EN : EX x E) (G : Gd x cX5_mark "ChantRulesModel" yX5_mark 2 (Option.none : Option Jvm.ClassFile.FieldType) Q) (hF : x.1.2.2.2.frames = 3 ∧ x.1.2.2.2.locals = 84) (hC : x.2.2.2.2.2 = (fun _ => false)) (hxt : (∀ z ∈ x.2.2.1.2.1.exceptionTable.toList, False)) : Snd x 22 (bX5_mark_22 E Q) := by
  unfold bX5_mark_22
  refine s_putf G.b G.ow G.kn (G.hts _ q1938) (fun _ h => h) fa_108 (la_cons (r := (RX5, TX5, 37)) G.hts (by decide) rfl q2010 (la_nil)) (by decide +kernel) dX5_mark_22 ?_
  refine s_aload_n rfl G.b dX5_mark_25 ?_
  refine s_dup G.b dX5_mark_26 ?_
  refine s_getf G.b G.ow G.kn (G.hts _ q1936) (fun _ h => h) fa_106 dX5_mark_27 ?_
  refine s_aload_n rfl G.b dX5_mark_30 ?_
  refine s_getf G.b G.ow G.kn (G.hts _ q1938) (fun _ h => h) fa_108 dX5_mark_31 ?_
  refine s_ifeq (tgt := 41) G.b dX5_mark_34 (by decide) (tX5_mark_41 EN G hF hC hxt) ?_
  refine s_iconst (by decide) G.b dX5_mark_37 ?_
  exact s_goto (tgt := 42) G.b dX5_mark_38 (by decide) (tX5_mark_42 EN G hF hC hxt)
set_option maxHeartbeats 4000000 in
theorem tX5_mark_21 {x : CX} {E : Nat → Value} {Q : Rs → HS → Prop} (EN : EX x E) (G : Gd x cX5_mark "ChantRulesModel" yX5_mark 2 (Option.none : Option Jvm.ClassFile.FieldType) Q) (hF : x.1.2.2.2.frames = 3 ∧ x.1.2.2.2.locals = 84) (hC : x.2.2.2.2.2 = (fun _ => false)) (hxt : (∀ z ∈ x.2.2.1.2.1.exceptionTable.toList, False)) : Snd x 21 (bX5_mark_21 E Q) := by
  unfold bX5_mark_21
  refine s_iconst (by decide) G.b dX5_mark_21 ?_
  exact (tX5_mark_22 EN G hF hC hxt)
set_option maxHeartbeats 4000000 in
theorem tX5_mark_8 {x : CX} {E : Nat → Value} {Q : Rs → HS → Prop} (EN : EX x E) (G : Gd x cX5_mark "ChantRulesModel" yX5_mark 2 (Option.none : Option Jvm.ClassFile.FieldType) Q) (hF : x.1.2.2.2.frames = 3 ∧ x.1.2.2.2.locals = 84) (hC : x.2.2.2.2.2 = (fun _ => false)) (hxt : (∀ z ∈ x.2.2.1.2.1.exceptionTable.toList, False)) : Snd x 8 (bX5_mark_8 E Q) := by
  unfold bX5_mark_8
  refine s_aload_n rfl G.b dX5_mark_8 ?_
  refine s_aload_n rfl G.b dX5_mark_9 ?_
  refine s_callV G (mX5_next EN) q2255 q2257 (sel_cons (r := (RX5, TX5, 37)) (by decide) rfl qs66 (sel_nil)) q90 q2258 nmk_281 (rm_of hF (Nat.le_of_ble_eq_true rfl) (Nat.le_of_ble_eq_true rfl)) dX5_mark_10 ?_ (sx_out G (fun z hz => (hxt z hz).elim))
  refine s_iload_n rfl G.b dX5_mark_13 ?_
  refine s_icmpeq (tgt := 21) G.b dX5_mark_14 (by decide) (tX5_mark_21 EN G hF hC hxt) ?_
  refine s_iconst (by decide) G.b dX5_mark_17 ?_
  exact s_goto (tgt := 22) G.b dX5_mark_18 (by decide) (tX5_mark_22 EN G hF hC hxt)
set_option maxHeartbeats 4000000 in
theorem tX5_mark_0 {x : CX} {E : Nat → Value} {Q : Rs → HS → Prop} (EN : EX x E) (G : Gd x cX5_mark "ChantRulesModel" yX5_mark 2 (Option.none : Option Jvm.ClassFile.FieldType) Q) (hF : x.1.2.2.2.frames = 3 ∧ x.1.2.2.2.locals = 84) (hC : x.2.2.2.2.2 = (fun _ => false)) (hxt : (∀ z ∈ x.2.2.1.2.1.exceptionTable.toList, False)) : Snd x 0 (bX5_mark_0 E Q) := by
  unfold bX5_mark_0
  refine s_aload_n rfl G.b dX5_mark_0 ?_
  refine s_getf G.b G.ow G.kn (G.hts _ q1938) (fun _ h => h) fa_108 dX5_mark_1 ?_
  refine s_ifeq (tgt := 8) G.b dX5_mark_4 (by decide) (tX5_mark_8 EN G hF hC hxt) ?_
  exact s_return G dX5_mark_7
set_option maxHeartbeats 4000000 in
theorem mX5_mark {l : Launch} {D : DE} {s0 : State} {E : Nat → Value} (EN : EV l D s0 E) : rMet l D s0 yX5_mark (ws_ yX5_mark cX5_mark 2 (Option.none : Option Jvm.ClassFile.FieldType)) 3 84 (wX5_mark E) := by
  refine body_met (fun _ => false) EN.kn (fun w h => h) (by decide +kernel) rfl (fun av h Q hw => ?_) ?_
  · unfold wX5_mark at hw
    split at hw
    · exact Nat.le_of_ble_eq_true rfl
    · exact hw.elim
  · intro p e s m below meth c av h Q hxt G hw
    unfold wX5_mark at hw
    split at hw
    · exact tX5_mark_0 EN G ⟨rfl, rfl⟩ rfl hxt _ _ _ hw
    · exact hw.elim
/-! ChantRulesModel.digits(I)I (X5_digits) -/
def bX5_digits_73 (E : Nat → Value) (Q : Rs → HS → Prop) (X4 : Ct) : Ct :=
  o_ior <|
  o_putf [8] 35 .boolean <|
  o_iload 2 <|
  o_ireturn .int Q
def bX5_digits_72 (E : Nat → Value) (Q : Rs → HS → Prop) (X4 : Ct) : Ct :=
  o_push (.int 0) <|
  (bX5_digits_73 E Q X4)
def bX5_digits_59 (E : Nat → Value) (Q : Rs → HS → Prop) (X4 : Ct) : Ct :=
  o_aload 0 <|
  o_dup <|
  o_getf [8] 35 <|
  o_iload 3 <|
  o_ifne (bX5_digits_72 E Q X4) <|
  o_push (.int 1) <|
  (bX5_digits_73 E Q X4)
def bX5_digits_4 (E : Nat → Value) (Q : Rs → HS → Prop) (X4 : Ct) : Ct :=
  o_aload 0 <|
  o_getf [8] 35 <|
  o_ifne (bX5_digits_59 E Q X4) <|
  o_iload 3 <|
  o_iload 1 <|
  o_icmpge (bX5_digits_59 E Q X4) <|
  o_aload 0 <|
  o_callV [8] 1 (wX5_next E) (x_out Q) <|
  o_push (.int 48) <|
  o_push (.int 57) <|
  o_call 3 (wX5_isIn E) (x_out Q) <|
  o_ifeq (bX5_digits_59 E Q X4) <|
  o_push (.int 10) <|
  o_iload 2 <|
  o_imul <|
  o_aload 0 <|
  o_callV [8] 1 (wX5_next E) (x_out Q) <|
  o_iadd <|
  o_push (.int 48) <|
  o_isub <|
  o_istore 2 <|
  o_aload 0 <|
  o_dup <|
  o_getf [8] 33 <|
  o_push (.int 1) <|
  o_iadd <|
  o_putf [8] 33 .int <|
  o_iinc 3 1 <|
  X4
def bX5_digits_0 (E : Nat → Value) (Q : Rs → HS → Prop) (X4 : Ct) : Ct :=
  o_push (.int 0) <|
  o_istore 2 <|
  o_push (.int 0) <|
  o_istore 3 <|
  X4
def wX5_digits (E : Nat → Value) : Wp := fun av h Q => match av with
  | [a0, a1] => ∀ X4 : Ct, (∀ ls st h, bX5_digits_4 E Q X4 ls st h → X4 ls st h) → bX5_digits_0 E Q X4 [a0, a1, jk, jk] [] h
  | _ => False
set_option maxHeartbeats 4000000 in
theorem tX5_digits_73 {x : CX} {E : Nat → Value} {Q : Rs → HS → Prop} {X4 : Ct} (EN : EX x E) (G : Gd x cX5_digits "ChantRulesModel" yX5_digits 4 (Option.some Jvm.ClassFile.FieldType.int) Q) (hF : x.1.2.2.2.frames = 3 ∧ x.1.2.2.2.locals = 86) (hC : x.2.2.2.2.2 = (fun _ => false)) (hxt : (∀ z ∈ x.2.2.1.2.1.exceptionTable.toList, False)) (h4 : Snd x 4 X4) : Snd x 73 (bX5_digits_73 E Q X4) := by
  unfold bX5_digits_73
  refine s_ior G.b dX5_digits_73 ?_
  refine s_putf G.b G.ow G.kn (G.hts _ q1938) (fun _ h => h) fa_108 (la_cons (r := (RX5, TX5, 37)) G.hts (by decide) rfl q2010 (la_nil)) (by decide +kernel) dX5_digits_74 ?_
  refine s_iload_n rfl G.b dX5_digits_77 ?_
  exact s_ireturn G dX5_digits_78
set_option maxHeartbeats 4000000 in
theorem tX5_digits_72 {x : CX} {E : Nat → Value} {Q : Rs → HS → Prop} {X4 : Ct} (EN : EX x E) (G : Gd x cX5_digits "ChantRulesModel" yX5_digits 4 (Option.some Jvm.ClassFile.FieldType.int) Q) (hF : x.1.2.2.2.frames = 3 ∧ x.1.2.2.2.locals = 86) (hC : x.2.2.2.2.2 = (fun _ => false)) (hxt : (∀ z ∈ x.2.2.1.2.1.exceptionTable.toList, False)) (h4 : Snd x 4 X4) : Snd x 72 (bX5_digits_72 E Q X4) := by
  unfold bX5_digits_72
  refine s_iconst (by decide) G.b dX5_digits_72 ?_
  exact (tX5_digits_73 EN G hF hC hxt h4)
set_option maxHeartbeats 4000000 in
theorem tX5_digits_59 {x : CX} {E : Nat → Value} {Q : Rs → HS → Prop} {X4 : Ct} (EN : EX x E) (G : Gd x cX5_digits "ChantRulesModel" yX5_digits 4 (Option.some Jvm.ClassFile.FieldType.int) Q) (hF : x.1.2.2.2.frames = 3 ∧ x.1.2.2.2.locals = 86) (hC : x.2.2.2.2.2 = (fun _ => false)) (hxt : (∀ z ∈ x.2.2.1.2.1.exceptionTable.toList, False)) (h4 : Snd x 4 X4) : Snd x 59 (bX5_digits_59 E Q X4) := by
  unfold bX5_digits_59
  refine s_aload_n rfl G.b dX5_digits_59 ?_
  refine s_dup G.b dX5_digits_60 ?_
  refine s_getf G.b G.ow G.kn (G.hts _ q1938) (fun _ h => h) fa_108 dX5_digits_61 ?_
  refine s_iload_n rfl G.b dX5_digits_64 ?_
  refine s_ifne (tgt := 72) G.b dX5_digits_65 (by decide) (tX5_digits_72 EN G hF hC hxt h4) ?_
  refine s_iconst (by decide) G.b dX5_digits_68 ?_
  exact s_goto (tgt := 73) G.b dX5_digits_69 (by decide) (tX5_digits_73 EN G hF hC hxt h4)
set_option maxHeartbeats 4000000 in
theorem tX5_digits_4 {x : CX} {E : Nat → Value} {Q : Rs → HS → Prop} {X4 : Ct} (EN : EX x E) (G : Gd x cX5_digits "ChantRulesModel" yX5_digits 4 (Option.some Jvm.ClassFile.FieldType.int) Q) (hF : x.1.2.2.2.frames = 3 ∧ x.1.2.2.2.locals = 86) (hC : x.2.2.2.2.2 = (fun _ => false)) (hxt : (∀ z ∈ x.2.2.1.2.1.exceptionTable.toList, False)) (h4 : Snd x 4 X4) : Snd x 4 (bX5_digits_4 E Q X4) := by
  unfold bX5_digits_4
  refine s_aload_n rfl G.b dX5_digits_4 ?_
  refine s_getf G.b G.ow G.kn (G.hts _ q1938) (fun _ h => h) fa_108 dX5_digits_5 ?_
  refine s_ifne (tgt := 59) G.b dX5_digits_8 (by decide) (tX5_digits_59 EN G hF hC hxt h4) ?_
  refine s_iload_n rfl G.b dX5_digits_11 ?_
  refine s_iload_n rfl G.b dX5_digits_12 ?_
  refine s_icmpge (tgt := 59) G.b dX5_digits_13 (by decide) (tX5_digits_59 EN G hF hC hxt h4) ?_
  refine s_aload_n rfl G.b dX5_digits_16 ?_
  refine s_callV G (mX5_next EN) q2255 q2257 (sel_cons (r := (RX5, TX5, 37)) (by decide) rfl qs66 (sel_nil)) q90 q2258 nmk_281 (rm_of hF (Nat.le_of_ble_eq_true rfl) (Nat.le_of_ble_eq_true rfl)) dX5_digits_17 ?_ (sx_out G (fun z hz => (hxt z hz).elim))
  refine s_bipush (by decide) G.b dX5_digits_20 ?_
  refine s_bipush (by decide) G.b dX5_digits_22 ?_
  refine s_callS G (mX5_isIn EN) q2033 q2034 q90 q2035 nmk_251 (rm_of hF (Nat.le_of_ble_eq_true rfl) (Nat.le_of_ble_eq_true rfl)) dX5_digits_24 ?_ (sx_out G (fun z hz => (hxt z hz).elim))
  refine s_ifeq (tgt := 59) G.b dX5_digits_27 (by decide) (tX5_digits_59 EN G hF hC hxt h4) ?_
  refine s_bipush (by decide) G.b dX5_digits_30 ?_
  refine s_iload_n rfl G.b dX5_digits_32 ?_
  refine s_imul G.b dX5_digits_33 ?_
  refine s_aload_n rfl G.b dX5_digits_34 ?_
  refine s_callV G (mX5_next EN) q2255 q2257 (sel_cons (r := (RX5, TX5, 37)) (by decide) rfl qs66 (sel_nil)) q90 q2258 nmk_281 (rm_of hF (Nat.le_of_ble_eq_true rfl) (Nat.le_of_ble_eq_true rfl)) dX5_digits_35 ?_ (sx_out G (fun z hz => (hxt z hz).elim))
  refine s_iadd G.b dX5_digits_38 ?_
  refine s_bipush (by decide) G.b dX5_digits_39 ?_
  refine s_isub G.b dX5_digits_41 ?_
  refine s_istore_n rfl G.b (by rw [G.nl]; decide) (fun _ _ => by rw [hC]) dX5_digits_42 ?_
  refine s_aload_n rfl G.b dX5_digits_43 ?_
  refine s_dup G.b dX5_digits_44 ?_
  refine s_getf G.b G.ow G.kn (G.hts _ q1936) (fun _ h => h) fa_106 dX5_digits_45 ?_
  refine s_iconst (by decide) G.b dX5_digits_48 ?_
  refine s_iadd G.b dX5_digits_49 ?_
  refine s_putf G.b G.ow G.kn (G.hts _ q1936) (fun _ h => h) fa_106 (la_cons (r := (RX5, TX5, 37)) G.hts (by decide) rfl q2006 (la_nil)) (by decide +kernel) dX5_digits_50 ?_
  refine s_iinc (by decide) G.b (by rw [G.nl]; decide) (fun _ _ => by rw [hC]) dX5_digits_53 ?_
  exact s_goto (tgt := 4) G.b dX5_digits_56 (by decide) h4
set_option maxHeartbeats 4000000 in
theorem tX5_digits_0 {x : CX} {E : Nat → Value} {Q : Rs → HS → Prop} {X4 : Ct} (EN : EX x E) (G : Gd x cX5_digits "ChantRulesModel" yX5_digits 4 (Option.some Jvm.ClassFile.FieldType.int) Q) (hF : x.1.2.2.2.frames = 3 ∧ x.1.2.2.2.locals = 86) (hC : x.2.2.2.2.2 = (fun _ => false)) (hxt : (∀ z ∈ x.2.2.1.2.1.exceptionTable.toList, False)) (h4 : Snd x 4 X4) : Snd x 0 (bX5_digits_0 E Q X4) := by
  unfold bX5_digits_0
  refine s_iconst (by decide) G.b dX5_digits_0 ?_
  refine s_istore_n rfl G.b (by rw [G.nl]; decide) (fun _ _ => by rw [hC]) dX5_digits_1 ?_
  refine s_iconst (by decide) G.b dX5_digits_2 ?_
  refine s_istore_n rfl G.b (by rw [G.nl]; decide) (fun _ _ => by rw [hC]) dX5_digits_3 ?_
  exact h4
set_option maxHeartbeats 4000000 in
theorem mX5_digits {l : Launch} {D : DE} {s0 : State} {E : Nat → Value} (EN : EV l D s0 E) : rMet l D s0 yX5_digits (ws_ yX5_digits cX5_digits 4 (Option.some Jvm.ClassFile.FieldType.int)) 3 86 (wX5_digits E) := by
  refine body_met (fun _ => false) EN.kn (fun w h => h) (by decide +kernel) rfl (fun av h Q hw => ?_) ?_
  · unfold wX5_digits at hw
    split at hw
    · exact Nat.le_of_ble_eq_true rfl
    · exact hw.elim
  · intro p e s m below meth c av h Q hxt G hw
    unfold wX5_digits at hw
    split at hw
    · exact tX5_digits_0 EN G ⟨rfl, rfl⟩ rfl hxt (fun _ _ _ h => h) _ _ _ (hw (AW _ 4) (tX5_digits_4 EN G ⟨rfl, rfl⟩ rfl hxt (fun _ _ _ h => h)))
    · exact hw.elim
/-! ChantRulesModel.behind(II)I (X5_behind) -/
theorem nmk_282 : nm_ok yX5_digits 1 := ⟨by decide +kernel, by decide +kernel, by decide +kernel⟩
theorem nmk_283 : nm_ok yX5_mark 1 := ⟨by decide +kernel, by decide +kernel, by decide +kernel⟩
def bX5_behind_21 (E : Nat → Value) (Q : Rs → HS → Prop) : Ct :=
  o_ireturn .int Q
def bX5_behind_16 (E : Nat → Value) (Q : Rs → HS → Prop) : Ct :=
  o_aload 0 <|
  o_iload 2 <|
  o_callV [8] 2 (wX5_digits E) (x_out Q) <|
  (bX5_behind_21 E Q)
def bX5_behind_0 (E : Nat → Value) (Q : Rs → HS → Prop) : Ct :=
  o_aload 0 <|
  o_iload 1 <|
  o_callV [8] 2 (wX5_mark E) (x_out Q) <|
  o_aload 0 <|
  o_getf [8] 35 <|
  o_ifeq (bX5_behind_16 E Q) <|
  o_push (.int 0) <|
  (bX5_behind_21 E Q)
def wX5_behind (E : Nat → Value) : Wp := fun av h Q => match av with
  | [a0, a1, a2] => bX5_behind_0 E Q [a0, a1, a2] [] h
  | _ => False
set_option maxHeartbeats 4000000 in
theorem tX5_behind_21 {x : CX} {E : Nat → Value} {Q : Rs → HS → Prop} (EN : EX x E) (G : Gd x cX5_behind "ChantRulesModel" yX5_behind 3 (Option.some Jvm.ClassFile.FieldType.int) Q) (hF : x.1.2.2.2.frames = 4 ∧ x.1.2.2.2.locals = 109) (hC : x.2.2.2.2.2 = (fun _ => false)) (hxt : (∀ z ∈ x.2.2.1.2.1.exceptionTable.toList, False)) : Snd x 21 (bX5_behind_21 E Q) := by
  unfold bX5_behind_21
  exact s_ireturn G dX5_behind_21
set_option maxHeartbeats 4000000 in
theorem tX5_behind_16 {x : CX} {E : Nat → Value} {Q : Rs → HS → Prop} (EN : EX x E) (G : Gd x cX5_behind "ChantRulesModel" yX5_behind 3 (Option.some Jvm.ClassFile.FieldType.int) Q) (hF : x.1.2.2.2.frames = 4 ∧ x.1.2.2.2.locals = 109) (hC : x.2.2.2.2.2 = (fun _ => false)) (hxt : (∀ z ∈ x.2.2.1.2.1.exceptionTable.toList, False)) : Snd x 16 (bX5_behind_16 E Q) := by
  unfold bX5_behind_16
  refine s_aload_n rfl G.b dX5_behind_16 ?_
  refine s_iload_n rfl G.b dX5_behind_17 ?_
  refine s_callV G (mX5_digits EN) q2259 q2261 (sel_cons (r := (RX5, TX5, 37)) (by decide) rfl qs67 (sel_nil)) q90 q2262 nmk_282 (rm_of hF (Nat.le_of_ble_eq_true rfl) (Nat.le_of_ble_eq_true rfl)) dX5_behind_18 ?_ (sx_out G (fun z hz => (hxt z hz).elim))
  exact (tX5_behind_21 EN G hF hC hxt)
set_option maxHeartbeats 4000000 in
theorem tX5_behind_0 {x : CX} {E : Nat → Value} {Q : Rs → HS → Prop} (EN : EX x E) (G : Gd x cX5_behind "ChantRulesModel" yX5_behind 3 (Option.some Jvm.ClassFile.FieldType.int) Q) (hF : x.1.2.2.2.frames = 4 ∧ x.1.2.2.2.locals = 109) (hC : x.2.2.2.2.2 = (fun _ => false)) (hxt : (∀ z ∈ x.2.2.1.2.1.exceptionTable.toList, False)) : Snd x 0 (bX5_behind_0 E Q) := by
  unfold bX5_behind_0
  refine s_aload_n rfl G.b dX5_behind_0 ?_
  refine s_iload_n rfl G.b dX5_behind_1 ?_
  refine s_callV G (mX5_mark EN) q2271 q2273 (sel_cons (r := (RX5, TX5, 37)) (by decide) rfl qs70 (sel_nil)) q90 q2274 nmk_283 (rm_of hF (Nat.le_of_ble_eq_true rfl) (Nat.le_of_ble_eq_true rfl)) dX5_behind_2 ?_ (sx_out G (fun z hz => (hxt z hz).elim))
  refine s_aload_n rfl G.b dX5_behind_5 ?_
  refine s_getf G.b G.ow G.kn (G.hts _ q1938) (fun _ h => h) fa_108 dX5_behind_6 ?_
  refine s_ifeq (tgt := 16) G.b dX5_behind_9 (by decide) (tX5_behind_16 EN G hF hC hxt) ?_
  refine s_iconst (by decide) G.b dX5_behind_12 ?_
  exact s_goto (tgt := 21) G.b dX5_behind_13 (by decide) (tX5_behind_21 EN G hF hC hxt)
set_option maxHeartbeats 4000000 in
theorem mX5_behind {l : Launch} {D : DE} {s0 : State} {E : Nat → Value} (EN : EV l D s0 E) : rMet l D s0 yX5_behind (ws_ yX5_behind cX5_behind 3 (Option.some Jvm.ClassFile.FieldType.int)) 4 109 (wX5_behind E) := by
  refine body_met (fun _ => false) EN.kn (fun w h => h) (by decide +kernel) rfl (fun av h Q hw => ?_) ?_
  · unfold wX5_behind at hw
    split at hw
    · exact Nat.le_of_ble_eq_true rfl
    · exact hw.elim
  · intro p e s m below meth c av h Q hxt G hw
    unfold wX5_behind at hw
    split at hw
    · exact tX5_behind_0 EN G ⟨rfl, rfl⟩ rfl hxt _ _ _ hw
    · exact hw.elim
/-! ChantRulesModel.letterBehind(I)I (X5_letterBehind) -/
def bX5_letterBehind_80 (E : Nat → Value) (Q : Rs → HS → Prop) : Ct :=
  o_ireturn .int Q
def bX5_letterBehind_76 (E : Nat → Value) (Q : Rs → HS → Prop) : Ct :=
  o_iload 2 <|
  o_push (.int 97) <|
  o_isub <|
  (bX5_letterBehind_80 E Q)
def bX5_letterBehind_62 (E : Nat → Value) (Q : Rs → HS → Prop) : Ct :=
  o_iadd <|
  o_putf [8] 33 .int <|
  o_iload 2 <|
  o_push (.int 45) <|
  o_icmpne (bX5_letterBehind_76 E Q) <|
  o_push (.int 4) <|
  (bX5_letterBehind_80 E Q)
def bX5_letterBehind_61 (E : Nat → Value) (Q : Rs → HS → Prop) : Ct :=
  o_push (.int 1) <|
  (bX5_letterBehind_62 E Q)
def bX5_letterBehind_42 (E : Nat → Value) (Q : Rs → HS → Prop) : Ct :=
  o_putf [8] 35 .boolean <|
  o_aload 0 <|
  o_dup <|
  o_getf [8] 33 <|
  o_aload 0 <|
  o_getf [8] 35 <|
  o_ifeq (bX5_letterBehind_61 E Q) <|
  o_push (.int 0) <|
  (bX5_letterBehind_62 E Q)
def bX5_letterBehind_41 (E : Nat → Value) (Q : Rs → HS → Prop) : Ct :=
  o_push (.int 0) <|
  (bX5_letterBehind_42 E Q)
def bX5_letterBehind_14 (E : Nat → Value) (Q : Rs → HS → Prop) : Ct :=
  o_aload 0 <|
  o_callV [8] 1 (wX5_next E) (x_out Q) <|
  o_istore 2 <|
  o_aload 0 <|
  o_iload 2 <|
  o_push (.int 97) <|
  o_push (.int 100) <|
  o_call 3 (wX5_isIn E) (x_out Q) <|
  o_ifne (bX5_letterBehind_41 E Q) <|
  o_iload 2 <|
  o_push (.int 45) <|
  o_icmpeq (bX5_letterBehind_41 E Q) <|
  o_push (.int 1) <|
  (bX5_letterBehind_42 E Q)
def bX5_letterBehind_0 (E : Nat → Value) (Q : Rs → HS → Prop) : Ct :=
  o_aload 0 <|
  o_iload 1 <|
  o_callV [8] 2 (wX5_mark E) (x_out Q) <|
  o_aload 0 <|
  o_getf [8] 35 <|
  o_ifeq (bX5_letterBehind_14 E Q) <|
  o_push (.int 0) <|
  o_ireturn .int Q
def wX5_letterBehind (E : Nat → Value) : Wp := fun av h Q => match av with
  | [a0, a1] => bX5_letterBehind_0 E Q [a0, a1, jk] [] h
  | _ => False
set_option maxHeartbeats 4000000 in
theorem tX5_letterBehind_80 {x : CX} {E : Nat → Value} {Q : Rs → HS → Prop} (EN : EX x E) (G : Gd x cX5_letterBehind "ChantRulesModel" yX5_letterBehind 3 (Option.some Jvm.ClassFile.FieldType.int) Q) (hF : x.1.2.2.2.frames = 4 ∧ x.1.2.2.2.locals = 105) (hC : x.2.2.2.2.2 = (fun _ => false)) (hxt : (∀ z ∈ x.2.2.1.2.1.exceptionTable.toList, False)) : Snd x 80 (bX5_letterBehind_80 E Q) := by
  unfold bX5_letterBehind_80
  exact s_ireturn G dX5_letterBehind_80
set_option maxHeartbeats 4000000 in
theorem tX5_letterBehind_76 {x : CX} {E : Nat → Value} {Q : Rs → HS → Prop} (EN : EX x E) (G : Gd x cX5_letterBehind "ChantRulesModel" yX5_letterBehind 3 (Option.some Jvm.ClassFile.FieldType.int) Q) (hF : x.1.2.2.2.frames = 4 ∧ x.1.2.2.2.locals = 105) (hC : x.2.2.2.2.2 = (fun _ => false)) (hxt : (∀ z ∈ x.2.2.1.2.1.exceptionTable.toList, False)) : Snd x 76 (bX5_letterBehind_76 E Q) := by
  unfold bX5_letterBehind_76
  refine s_iload_n rfl G.b dX5_letterBehind_76 ?_
  refine s_bipush (by decide) G.b dX5_letterBehind_77 ?_
  refine s_isub G.b dX5_letterBehind_79 ?_
  exact (tX5_letterBehind_80 EN G hF hC hxt)
set_option maxHeartbeats 4000000 in
theorem tX5_letterBehind_62 {x : CX} {E : Nat → Value} {Q : Rs → HS → Prop} (EN : EX x E) (G : Gd x cX5_letterBehind "ChantRulesModel" yX5_letterBehind 3 (Option.some Jvm.ClassFile.FieldType.int) Q) (hF : x.1.2.2.2.frames = 4 ∧ x.1.2.2.2.locals = 105) (hC : x.2.2.2.2.2 = (fun _ => false)) (hxt : (∀ z ∈ x.2.2.1.2.1.exceptionTable.toList, False)) : Snd x 62 (bX5_letterBehind_62 E Q) := by
  unfold bX5_letterBehind_62
  refine s_iadd G.b dX5_letterBehind_62 ?_
  refine s_putf G.b G.ow G.kn (G.hts _ q1936) (fun _ h => h) fa_106 (la_cons (r := (RX5, TX5, 37)) G.hts (by decide) rfl q2006 (la_nil)) (by decide +kernel) dX5_letterBehind_63 ?_
  refine s_iload_n rfl G.b dX5_letterBehind_66 ?_
  refine s_bipush (by decide) G.b dX5_letterBehind_67 ?_
  refine s_icmpne (tgt := 76) G.b dX5_letterBehind_69 (by decide) (tX5_letterBehind_76 EN G hF hC hxt) ?_
  refine s_iconst (by decide) G.b dX5_letterBehind_72 ?_
  exact s_goto (tgt := 80) G.b dX5_letterBehind_73 (by decide) (tX5_letterBehind_80 EN G hF hC hxt)
set_option maxHeartbeats 4000000 in
theorem tX5_letterBehind_61 {x : CX} {E : Nat → Value} {Q : Rs → HS → Prop} (EN : EX x E) (G : Gd x cX5_letterBehind "ChantRulesModel" yX5_letterBehind 3 (Option.some Jvm.ClassFile.FieldType.int) Q) (hF : x.1.2.2.2.frames = 4 ∧ x.1.2.2.2.locals = 105) (hC : x.2.2.2.2.2 = (fun _ => false)) (hxt : (∀ z ∈ x.2.2.1.2.1.exceptionTable.toList, False)) : Snd x 61 (bX5_letterBehind_61 E Q) := by
  unfold bX5_letterBehind_61
  refine s_iconst (by decide) G.b dX5_letterBehind_61 ?_
  exact (tX5_letterBehind_62 EN G hF hC hxt)
set_option maxHeartbeats 4000000 in
theorem tX5_letterBehind_42 {x : CX} {E : Nat → Value} {Q : Rs → HS → Prop} (EN : EX x E) (G : Gd x cX5_letterBehind "ChantRulesModel" yX5_letterBehind 3 (Option.some Jvm.ClassFile.FieldType.int) Q) (hF : x.1.2.2.2.frames = 4 ∧ x.1.2.2.2.locals = 105) (hC : x.2.2.2.2.2 = (fun _ => false)) (hxt : (∀ z ∈ x.2.2.1.2.1.exceptionTable.toList, False)) : Snd x 42 (bX5_letterBehind_42 E Q) := by
  unfold bX5_letterBehind_42
  refine s_putf G.b G.ow G.kn (G.hts _ q1938) (fun _ h => h) fa_108 (la_cons (r := (RX5, TX5, 37)) G.hts (by decide) rfl q2010 (la_nil)) (by decide +kernel) dX5_letterBehind_42 ?_
  refine s_aload_n rfl G.b dX5_letterBehind_45 ?_
  refine s_dup G.b dX5_letterBehind_46 ?_
  refine s_getf G.b G.ow G.kn (G.hts _ q1936) (fun _ h => h) fa_106 dX5_letterBehind_47 ?_
  refine s_aload_n rfl G.b dX5_letterBehind_50 ?_
  refine s_getf G.b G.ow G.kn (G.hts _ q1938) (fun _ h => h) fa_108 dX5_letterBehind_51 ?_
  refine s_ifeq (tgt := 61) G.b dX5_letterBehind_54 (by decide) (tX5_letterBehind_61 EN G hF hC hxt) ?_
  refine s_iconst (by decide) G.b dX5_letterBehind_57 ?_
  exact s_goto (tgt := 62) G.b dX5_letterBehind_58 (by decide) (tX5_letterBehind_62 EN G hF hC hxt)
set_option maxHeartbeats 4000000 in
theorem tX5_letterBehind_41 {x : CX} {E : Nat → Value} {Q : Rs → HS → Prop} (EN : EX x E) (G : Gd x cX5_letterBehind "ChantRulesModel" yX5_letterBehind 3 (Option.some Jvm.ClassFile.FieldType.int) Q) (hF : x.1.2.2.2.frames = 4 ∧ x.1.2.2.2.locals = 105) (hC : x.2.2.2.2.2 = (fun _ => false)) (hxt : (∀ z ∈ x.2.2.1.2.1.exceptionTable.toList, False)) : Snd x 41 (bX5_letterBehind_41 E Q) := by
  unfold bX5_letterBehind_41
  refine s_iconst (by decide) G.b dX5_letterBehind_41 ?_
  exact (tX5_letterBehind_42 EN G hF hC hxt)
set_option maxHeartbeats 4000000 in
theorem tX5_letterBehind_14 {x : CX} {E : Nat → Value} {Q : Rs → HS → Prop} (EN : EX x E) (G : Gd x cX5_letterBehind "ChantRulesModel" yX5_letterBehind 3 (Option.some Jvm.ClassFile.FieldType.int) Q) (hF : x.1.2.2.2.frames = 4 ∧ x.1.2.2.2.locals = 105) (hC : x.2.2.2.2.2 = (fun _ => false)) (hxt : (∀ z ∈ x.2.2.1.2.1.exceptionTable.toList, False)) : Snd x 14 (bX5_letterBehind_14 E Q) := by
  unfold bX5_letterBehind_14
  refine s_aload_n rfl G.b dX5_letterBehind_14 ?_
  refine s_callV G (mX5_next EN) q2255 q2257 (sel_cons (r := (RX5, TX5, 37)) (by decide) rfl qs66 (sel_nil)) q90 q2258 nmk_281 (rm_of hF (Nat.le_of_ble_eq_true rfl) (Nat.le_of_ble_eq_true rfl)) dX5_letterBehind_15 ?_ (sx_out G (fun z hz => (hxt z hz).elim))
  refine s_istore_n rfl G.b (by rw [G.nl]; decide) (fun _ _ => by rw [hC]) dX5_letterBehind_18 ?_
  refine s_aload_n rfl G.b dX5_letterBehind_19 ?_
  refine s_iload_n rfl G.b dX5_letterBehind_20 ?_
  refine s_bipush (by decide) G.b dX5_letterBehind_21 ?_
  refine s_bipush (by decide) G.b dX5_letterBehind_23 ?_
  refine s_callS G (mX5_isIn EN) q2033 q2034 q90 q2035 nmk_251 (rm_of hF (Nat.le_of_ble_eq_true rfl) (Nat.le_of_ble_eq_true rfl)) dX5_letterBehind_25 ?_ (sx_out G (fun z hz => (hxt z hz).elim))
  refine s_ifne (tgt := 41) G.b dX5_letterBehind_28 (by decide) (tX5_letterBehind_41 EN G hF hC hxt) ?_
  refine s_iload_n rfl G.b dX5_letterBehind_31 ?_
  refine s_bipush (by decide) G.b dX5_letterBehind_32 ?_
  refine s_icmpeq (tgt := 41) G.b dX5_letterBehind_34 (by decide) (tX5_letterBehind_41 EN G hF hC hxt) ?_
  refine s_iconst (by decide) G.b dX5_letterBehind_37 ?_
  exact s_goto (tgt := 42) G.b dX5_letterBehind_38 (by decide) (tX5_letterBehind_42 EN G hF hC hxt)
set_option maxHeartbeats 4000000 in
theorem tX5_letterBehind_0 {x : CX} {E : Nat → Value} {Q : Rs → HS → Prop} (EN : EX x E) (G : Gd x cX5_letterBehind "ChantRulesModel" yX5_letterBehind 3 (Option.some Jvm.ClassFile.FieldType.int) Q) (hF : x.1.2.2.2.frames = 4 ∧ x.1.2.2.2.locals = 105) (hC : x.2.2.2.2.2 = (fun _ => false)) (hxt : (∀ z ∈ x.2.2.1.2.1.exceptionTable.toList, False)) : Snd x 0 (bX5_letterBehind_0 E Q) := by
  unfold bX5_letterBehind_0
  refine s_aload_n rfl G.b dX5_letterBehind_0 ?_
  refine s_iload_n rfl G.b dX5_letterBehind_1 ?_
  refine s_callV G (mX5_mark EN) q2271 q2273 (sel_cons (r := (RX5, TX5, 37)) (by decide) rfl qs70 (sel_nil)) q90 q2274 nmk_283 (rm_of hF (Nat.le_of_ble_eq_true rfl) (Nat.le_of_ble_eq_true rfl)) dX5_letterBehind_2 ?_ (sx_out G (fun z hz => (hxt z hz).elim))
  refine s_aload_n rfl G.b dX5_letterBehind_5 ?_
  refine s_getf G.b G.ow G.kn (G.hts _ q1938) (fun _ h => h) fa_108 dX5_letterBehind_6 ?_
  refine s_ifeq (tgt := 14) G.b dX5_letterBehind_9 (by decide) (tX5_letterBehind_14 EN G hF hC hxt) ?_
  refine s_iconst (by decide) G.b dX5_letterBehind_12 ?_
  exact s_ireturn G dX5_letterBehind_13
set_option maxHeartbeats 4000000 in
theorem mX5_letterBehind {l : Launch} {D : DE} {s0 : State} {E : Nat → Value} (EN : EV l D s0 E) : rMet l D s0 yX5_letterBehind (ws_ yX5_letterBehind cX5_letterBehind 3 (Option.some Jvm.ClassFile.FieldType.int)) 4 105 (wX5_letterBehind E) := by
  refine body_met (fun _ => false) EN.kn (fun w h => h) (by decide +kernel) rfl (fun av h Q hw => ?_) ?_
  · unfold wX5_letterBehind at hw
    split at hw
    · exact Nat.le_of_ble_eq_true rfl
    · exact hw.elim
  · intro p e s m below meth c av h Q hxt G hw
    unfold wX5_letterBehind at hw
    split at hw
    · exact tX5_letterBehind_0 EN G ⟨rfl, rfl⟩ rfl hxt _ _ _ hw
    · exact hw.elim
/-! ChantRulesModel.arcTold()V (X5_arcTold) -/
theorem nmk_284 : nm_ok yX5_behind 2 := ⟨by decide +kernel, by decide +kernel, by decide +kernel⟩
theorem nmk_285 : nm_ok yX5_letterBehind 1 := ⟨by decide +kernel, by decide +kernel, by decide +kernel⟩
def bX5_arcTold_0 (E : Nat → Value) (Q : Rs → HS → Prop) : Ct :=
  o_aload 0 <|
  o_getf [8] 32 <|
  o_push (.int 1) <|
  o_aload 0 <|
  o_push (.int 58) <|
  o_push (.int 1) <|
  o_callV [8] 3 (wX5_behind E) (x_out Q) <|
  o_ast [(100, .int)] <|
  o_aload 0 <|
  o_getf [8] 32 <|
  o_push (.int 2) <|
  o_aload 0 <|
  o_push (.int 62) <|
  o_push (.int 1) <|
  o_callV [8] 3 (wX5_behind E) (x_out Q) <|
  o_ast [(100, .int)] <|
  o_aload 0 <|
  o_getf [8] 32 <|
  o_push (.int 3) <|
  o_aload 0 <|
  o_push (.int 32) <|
  o_callV [8] 2 (wX5_letterBehind E) (x_out Q) <|
  o_ast [(100, .int)] <|
  o_aload 0 <|
  o_getf [8] 32 <|
  o_push (.int 4) <|
  o_aload 0 <|
  o_push (.int 47) <|
  o_callV [8] 2 (wX5_letterBehind E) (x_out Q) <|
  o_ast [(100, .int)] <|
  o_aload 0 <|
  o_getf [8] 32 <|
  o_push (.int 5) <|
  o_aload 0 <|
  o_push (.int 61) <|
  o_push (.int 1) <|
  o_callV [8] 3 (wX5_behind E) (x_out Q) <|
  o_ast [(100, .int)] <|
  o_return Q
def wX5_arcTold (E : Nat → Value) : Wp := fun av h Q => match av with
  | [a0] => bX5_arcTold_0 E Q [a0] [] h
  | _ => False
set_option maxHeartbeats 4000000 in
theorem tX5_arcTold_0 {x : CX} {E : Nat → Value} {Q : Rs → HS → Prop} (EN : EX x E) (G : Gd x cX5_arcTold "ChantRulesModel" yX5_arcTold 1 (Option.none : Option Jvm.ClassFile.FieldType) Q) (hF : x.1.2.2.2.frames = 5 ∧ x.1.2.2.2.locals = 131) (hC : x.2.2.2.2.2 = (fun _ => false)) (hxt : (∀ z ∈ x.2.2.1.2.1.exceptionTable.toList, False)) : Snd x 0 (bX5_arcTold_0 E Q) := by
  unfold bX5_arcTold_0
  refine s_aload_n rfl G.b dX5_arcTold_0 ?_
  refine s_getf G.b G.ow G.kn (G.hts _ q1935) (fun _ h => h) fa_83 dX5_arcTold_1 ?_
  refine s_iconst (by decide) G.b dX5_arcTold_4 ?_
  refine s_aload_n rfl G.b dX5_arcTold_5 ?_
  refine s_bipush (by decide) G.b dX5_arcTold_6 ?_
  refine s_iconst (by decide) G.b dX5_arcTold_8 ?_
  refine s_callV G (mX5_behind EN) q2267 q2269 (sel_cons (r := (RX5, TX5, 37)) (by decide) rfl qs69 (sel_nil)) q90 q2270 nmk_284 (rm_of hF (Nat.le_of_ble_eq_true rfl) (Nat.le_of_ble_eq_true rfl)) dX5_arcTold_9 ?_ (sx_out G (fun z hz => (hxt z hz).elim))
  refine s_iast G.b G.kn dX5_arcTold_12 ?_
  refine s_aload_n rfl G.b dX5_arcTold_13 ?_
  refine s_getf G.b G.ow G.kn (G.hts _ q1935) (fun _ h => h) fa_83 dX5_arcTold_14 ?_
  refine s_iconst (by decide) G.b dX5_arcTold_17 ?_
  refine s_aload_n rfl G.b dX5_arcTold_18 ?_
  refine s_bipush (by decide) G.b dX5_arcTold_19 ?_
  refine s_iconst (by decide) G.b dX5_arcTold_21 ?_
  refine s_callV G (mX5_behind EN) q2267 q2269 (sel_cons (r := (RX5, TX5, 37)) (by decide) rfl qs69 (sel_nil)) q90 q2270 nmk_284 (rm_of hF (Nat.le_of_ble_eq_true rfl) (Nat.le_of_ble_eq_true rfl)) dX5_arcTold_22 ?_ (sx_out G (fun z hz => (hxt z hz).elim))
  refine s_iast G.b G.kn dX5_arcTold_25 ?_
  refine s_aload_n rfl G.b dX5_arcTold_26 ?_
  refine s_getf G.b G.ow G.kn (G.hts _ q1935) (fun _ h => h) fa_83 dX5_arcTold_27 ?_
  refine s_iconst (by decide) G.b dX5_arcTold_30 ?_
  refine s_aload_n rfl G.b dX5_arcTold_31 ?_
  refine s_bipush (by decide) G.b dX5_arcTold_32 ?_
  refine s_callV G (mX5_letterBehind EN) q2279 q2281 (sel_cons (r := (RX5, TX5, 37)) (by decide) rfl qs72 (sel_nil)) q90 q2282 nmk_285 (rm_of hF (Nat.le_of_ble_eq_true rfl) (Nat.le_of_ble_eq_true rfl)) dX5_arcTold_34 ?_ (sx_out G (fun z hz => (hxt z hz).elim))
  refine s_iast G.b G.kn dX5_arcTold_37 ?_
  refine s_aload_n rfl G.b dX5_arcTold_38 ?_
  refine s_getf G.b G.ow G.kn (G.hts _ q1935) (fun _ h => h) fa_83 dX5_arcTold_39 ?_
  refine s_iconst (by decide) G.b dX5_arcTold_42 ?_
  refine s_aload_n rfl G.b dX5_arcTold_43 ?_
  refine s_bipush (by decide) G.b dX5_arcTold_44 ?_
  refine s_callV G (mX5_letterBehind EN) q2279 q2281 (sel_cons (r := (RX5, TX5, 37)) (by decide) rfl qs72 (sel_nil)) q90 q2282 nmk_285 (rm_of hF (Nat.le_of_ble_eq_true rfl) (Nat.le_of_ble_eq_true rfl)) dX5_arcTold_46 ?_ (sx_out G (fun z hz => (hxt z hz).elim))
  refine s_iast G.b G.kn dX5_arcTold_49 ?_
  refine s_aload_n rfl G.b dX5_arcTold_50 ?_
  refine s_getf G.b G.ow G.kn (G.hts _ q1935) (fun _ h => h) fa_83 dX5_arcTold_51 ?_
  refine s_iconst (by decide) G.b dX5_arcTold_54 ?_
  refine s_aload_n rfl G.b dX5_arcTold_55 ?_
  refine s_bipush (by decide) G.b dX5_arcTold_56 ?_
  refine s_iconst (by decide) G.b dX5_arcTold_58 ?_
  refine s_callV G (mX5_behind EN) q2267 q2269 (sel_cons (r := (RX5, TX5, 37)) (by decide) rfl qs69 (sel_nil)) q90 q2270 nmk_284 (rm_of hF (Nat.le_of_ble_eq_true rfl) (Nat.le_of_ble_eq_true rfl)) dX5_arcTold_59 ?_ (sx_out G (fun z hz => (hxt z hz).elim))
  refine s_iast G.b G.kn dX5_arcTold_62 ?_
  exact s_return G dX5_arcTold_63
set_option maxHeartbeats 4000000 in
theorem mX5_arcTold {l : Launch} {D : DE} {s0 : State} {E : Nat → Value} (EN : EV l D s0 E) : rMet l D s0 yX5_arcTold (ws_ yX5_arcTold cX5_arcTold 1 (Option.none : Option Jvm.ClassFile.FieldType)) 5 131 (wX5_arcTold E) := by
  refine body_met (fun _ => false) EN.kn (fun w h => h) (by decide +kernel) rfl (fun av h Q hw => ?_) ?_
  · unfold wX5_arcTold at hw
    split at hw
    · exact Nat.le_of_ble_eq_true rfl
    · exact hw.elim
  · intro p e s m below meth c av h Q hxt G hw
    unfold wX5_arcTold at hw
    split at hw
    · exact tX5_arcTold_0 EN G ⟨rfl, rfl⟩ rfl hxt _ _ _ hw
    · exact hw.elim
/-! ChantRulesModel.comes(I)I (X5_comes) -/
def bX5_comes_33 (E : Nat → Value) (Q : Rs → HS → Prop) : Ct :=
  o_aload 0 <|
  o_getf [8] 7 <|
  o_iload 1 <|
  o_aload 0 <|
  o_getf [8] 7 <|
  o_push (.int 0) <|
  o_iload 1 <|
  o_iadd <|
  o_ald [100] <|
  o_call 2 (wX5_endAt E) (x_out Q) <|
  o_push (.int (-1)) <|
  o_ast [(100, .int)] <|
  o_aload 0 <|
  o_getf [8] 7 <|
  o_push (.int 0) <|
  o_iload 1 <|
  o_iadd <|
  o_dup2 <|
  o_ald [100] <|
  o_push (.int 1) <|
  o_iadd <|
  o_ast [(100, .int)] <|
  o_aload 0 <|
  o_getf [8] 7 <|
  o_push (.int 0) <|
  o_iload 1 <|
  o_iadd <|
  o_ald [100] <|
  o_push (.int 1) <|
  o_isub <|
  o_ireturn .int Q
def bX5_comes_14 (E : Nat → Value) (Q : Rs → HS → Prop) : Ct :=
  o_aload 0 <|
  o_getf [8] 7 <|
  o_push (.int 0) <|
  o_iload 1 <|
  o_iadd <|
  o_ald [100] <|
  o_push (.int 5) <|
  o_icmpne (bX5_comes_33 E Q) <|
  o_aload 0 <|
  o_push (.int 1) <|
  o_push (.int 5) <|
  o_callV [8] 3 (wX5_refuses E) (x_out Q) <|
  o_ireturn .int Q
def bX5_comes_0 (E : Nat → Value) (Q : Rs → HS → Prop) : Ct :=
  o_iload 1 <|
  o_call 1 (wX5_isRule E) (x_out Q) <|
  o_ifne (bX5_comes_14 E Q) <|
  o_aload 0 <|
  o_push (.int (-11)) <|
  o_callV [8] 2 (wX5_fail E) (x_out Q) <|
  o_ireturn .int Q
def wX5_comes (E : Nat → Value) : Wp := fun av h Q => match av with
  | [a0, a1] => bX5_comes_0 E Q [a0, a1] [] h
  | _ => False
set_option maxHeartbeats 4000000 in
theorem tX5_comes_33 {x : CX} {E : Nat → Value} {Q : Rs → HS → Prop} (EN : EX x E) (G : Gd x cX5_comes "ChantRulesModel" yX5_comes 2 (Option.some Jvm.ClassFile.FieldType.int) Q) (hF : x.1.2.2.2.frames = 4 ∧ x.1.2.2.2.locals = 107) (hC : x.2.2.2.2.2 = (fun _ => false)) (hxt : (∀ z ∈ x.2.2.1.2.1.exceptionTable.toList, False)) : Snd x 33 (bX5_comes_33 E Q) := by
  unfold bX5_comes_33
  refine s_aload_n rfl G.b dX5_comes_33 ?_
  refine s_getf G.b G.ow G.kn (G.hts _ q1910) (fun _ h => h) fa_73 dX5_comes_34 ?_
  refine s_iload_n rfl G.b dX5_comes_37 ?_
  refine s_aload_n rfl G.b dX5_comes_38 ?_
  refine s_getf G.b G.ow G.kn (G.hts _ q1910) (fun _ h => h) fa_73 dX5_comes_39 ?_
  refine s_iconst (by decide) G.b dX5_comes_42 ?_
  refine s_iload_n rfl G.b dX5_comes_43 ?_
  refine s_iadd G.b dX5_comes_44 ?_
  refine s_iald G.b G.kn dX5_comes_45 ?_
  refine s_callS G (mX5_endAt EN) q2044 q2045 q90 q2046 nmk_247 (rm_of hF (Nat.le_of_ble_eq_true rfl) (Nat.le_of_ble_eq_true rfl)) dX5_comes_46 ?_ (sx_out G (fun z hz => (hxt z hz).elim))
  refine s_iconst (by decide) G.b dX5_comes_49 ?_
  refine s_iast G.b G.kn dX5_comes_50 ?_
  refine s_aload_n rfl G.b dX5_comes_51 ?_
  refine s_getf G.b G.ow G.kn (G.hts _ q1910) (fun _ h => h) fa_73 dX5_comes_52 ?_
  refine s_iconst (by decide) G.b dX5_comes_55 ?_
  refine s_iload_n rfl G.b dX5_comes_56 ?_
  refine s_iadd G.b dX5_comes_57 ?_
  refine s_dup2 G.b dX5_comes_58 ?_
  refine s_iald G.b G.kn dX5_comes_59 ?_
  refine s_iconst (by decide) G.b dX5_comes_60 ?_
  refine s_iadd G.b dX5_comes_61 ?_
  refine s_iast G.b G.kn dX5_comes_62 ?_
  refine s_aload_n rfl G.b dX5_comes_63 ?_
  refine s_getf G.b G.ow G.kn (G.hts _ q1910) (fun _ h => h) fa_73 dX5_comes_64 ?_
  refine s_iconst (by decide) G.b dX5_comes_67 ?_
  refine s_iload_n rfl G.b dX5_comes_68 ?_
  refine s_iadd G.b dX5_comes_69 ?_
  refine s_iald G.b G.kn dX5_comes_70 ?_
  refine s_iconst (by decide) G.b dX5_comes_71 ?_
  refine s_isub G.b dX5_comes_72 ?_
  exact s_ireturn G dX5_comes_73
set_option maxHeartbeats 4000000 in
theorem tX5_comes_14 {x : CX} {E : Nat → Value} {Q : Rs → HS → Prop} (EN : EX x E) (G : Gd x cX5_comes "ChantRulesModel" yX5_comes 2 (Option.some Jvm.ClassFile.FieldType.int) Q) (hF : x.1.2.2.2.frames = 4 ∧ x.1.2.2.2.locals = 107) (hC : x.2.2.2.2.2 = (fun _ => false)) (hxt : (∀ z ∈ x.2.2.1.2.1.exceptionTable.toList, False)) : Snd x 14 (bX5_comes_14 E Q) := by
  unfold bX5_comes_14
  refine s_aload_n rfl G.b dX5_comes_14 ?_
  refine s_getf G.b G.ow G.kn (G.hts _ q1910) (fun _ h => h) fa_73 dX5_comes_15 ?_
  refine s_iconst (by decide) G.b dX5_comes_18 ?_
  refine s_iload_n rfl G.b dX5_comes_19 ?_
  refine s_iadd G.b dX5_comes_20 ?_
  refine s_iald G.b G.kn dX5_comes_21 ?_
  refine s_iconst (by decide) G.b dX5_comes_22 ?_
  refine s_icmpne (tgt := 33) G.b dX5_comes_23 (by decide) (tX5_comes_33 EN G hF hC hxt) ?_
  refine s_aload_n rfl G.b dX5_comes_26 ?_
  refine s_iconst (by decide) G.b dX5_comes_27 ?_
  refine s_iconst (by decide) G.b dX5_comes_28 ?_
  refine s_callV G (mX5_refuses EN) q2040 q2042 (sel_cons (r := (RX5, TX5, 37)) (by decide) rfl qs35 (sel_nil)) q90 q2043 nmk_255 (rm_of hF (Nat.le_of_ble_eq_true rfl) (Nat.le_of_ble_eq_true rfl)) dX5_comes_29 ?_ (sx_out G (fun z hz => (hxt z hz).elim))
  exact s_ireturn G dX5_comes_32
set_option maxHeartbeats 4000000 in
theorem tX5_comes_0 {x : CX} {E : Nat → Value} {Q : Rs → HS → Prop} (EN : EX x E) (G : Gd x cX5_comes "ChantRulesModel" yX5_comes 2 (Option.some Jvm.ClassFile.FieldType.int) Q) (hF : x.1.2.2.2.frames = 4 ∧ x.1.2.2.2.locals = 107) (hC : x.2.2.2.2.2 = (fun _ => false)) (hxt : (∀ z ∈ x.2.2.1.2.1.exceptionTable.toList, False)) : Snd x 0 (bX5_comes_0 E Q) := by
  unfold bX5_comes_0
  refine s_iload_n rfl G.b dX5_comes_0 ?_
  refine s_callS G (mX5_isRule EN) q2030 q2031 q90 q2032 nmk_253 (rm_of hF (Nat.le_of_ble_eq_true rfl) (Nat.le_of_ble_eq_true rfl)) dX5_comes_1 ?_ (sx_out G (fun z hz => (hxt z hz).elim))
  refine s_ifne (tgt := 14) G.b dX5_comes_4 (by decide) (tX5_comes_14 EN G hF hC hxt) ?_
  refine s_aload_n rfl G.b dX5_comes_7 ?_
  refine s_bipush (by decide) G.b dX5_comes_8 ?_
  refine s_callV G (mX5_fail EN) q2036 q2038 (sel_cons (r := (RX5, TX5, 37)) (by decide) rfl qs34 (sel_nil)) q90 q2039 nmk_254 (rm_of hF (Nat.le_of_ble_eq_true rfl) (Nat.le_of_ble_eq_true rfl)) dX5_comes_10 ?_ (sx_out G (fun z hz => (hxt z hz).elim))
  exact s_ireturn G dX5_comes_13
set_option maxHeartbeats 4000000 in
theorem mX5_comes {l : Launch} {D : DE} {s0 : State} {E : Nat → Value} (EN : EV l D s0 E) : rMet l D s0 yX5_comes (ws_ yX5_comes cX5_comes 2 (Option.some Jvm.ClassFile.FieldType.int)) 4 107 (wX5_comes E) := by
  refine body_met (fun _ => false) EN.kn (fun w h => h) (by decide +kernel) rfl (fun av h Q hw => ?_) ?_
  · unfold wX5_comes at hw
    split at hw
    · exact Nat.le_of_ble_eq_true rfl
    · exact hw.elim
  · intro p e s m below meth c av h Q hxt G hw
    unfold wX5_comes at hw
    split at hw
    · exact tX5_comes_0 EN G ⟨rfl, rfl⟩ rfl hxt _ _ _ hw
    · exact hw.elim
/-! ChantRulesModel.turns(I)I (X5_turns) -/
def bX5_turns_126 (E : Nat → Value) (Q : Rs → HS → Prop) (X18 : Ct) : Ct :=
  o_aload 0 <|
  o_getf [8] 7 <|
  o_push (.int 16) <|
  o_dup2 <|
  o_ald [100] <|
  o_push (.int 1) <|
  o_iadd <|
  o_ast [(100, .int)] <|
  o_iload 2 <|
  o_ireturn .int Q
def bX5_turns_108 (E : Nat → Value) (Q : Rs → HS → Prop) (X18 : Ct) : Ct :=
  o_iload 2 <|
  o_ifne (bX5_turns_126 E Q X18) <|
  o_aload 0 <|
  o_push (.int 4) <|
  o_aload 0 <|
  o_getf [8] 7 <|
  o_push (.int 2) <|
  o_iload 1 <|
  o_iadd <|
  o_ald [100] <|
  o_callV [8] 3 (wX5_refuses E) (x_out Q) <|
  o_ireturn .int Q
def bX5_turns_65 (E : Nat → Value) (Q : Rs → HS → Prop) (X18 : Ct) : Ct :=
  o_iadd <|
  o_istore 2 <|
  o_aload 0 <|
  o_getf [8] 7 <|
  o_iload 1 <|
  o_iload 3 <|
  o_push (.int 2) <|
  o_call 3 (wX5_of E) (x_out Q) <|
  o_aload 0 <|
  o_getf [8] 7 <|
  o_iload 1 <|
  o_iload 3 <|
  o_push (.int 3) <|
  o_call 3 (wX5_of E) (x_out Q) <|
  o_ald [100] <|
  o_ast [(100, .int)] <|
  o_aload 0 <|
  o_getf [8] 7 <|
  o_iload 1 <|
  o_iload 3 <|
  o_push (.int 3) <|
  o_call 3 (wX5_of E) (x_out Q) <|
  o_iload 4 <|
  o_ast [(100, .int)] <|
  o_iinc 3 1 <|
  X18
def bX5_turns_64 (E : Nat → Value) (Q : Rs → HS → Prop) (X18 : Ct) : Ct :=
  o_push (.int 1) <|
  (bX5_turns_65 E Q X18)
def bX5_turns_18 (E : Nat → Value) (Q : Rs → HS → Prop) (X18 : Ct) : Ct :=
  o_iload 3 <|
  o_aload 0 <|
  o_getf [8] 7 <|
  o_push (.int 2) <|
  o_iload 1 <|
  o_iadd <|
  o_ald [100] <|
  o_icmpge (bX5_turns_108 E Q X18) <|
  o_aload 0 <|
  o_getf [8] 7 <|
  o_iload 1 <|
  o_iload 3 <|
  o_push (.int 2) <|
  o_call 3 (wX5_of E) (x_out Q) <|
  o_ald [100] <|
  o_istore 4 <|
  o_iload 2 <|
  o_iload 4 <|
  o_aload 0 <|
  o_getf [8] 7 <|
  o_iload 1 <|
  o_iload 3 <|
  o_push (.int 3) <|
  o_call 3 (wX5_of E) (x_out Q) <|
  o_ald [100] <|
  o_icmpne (bX5_turns_64 E Q X18) <|
  o_push (.int 0) <|
  (bX5_turns_65 E Q X18)
def bX5_turns_14 (E : Nat → Value) (Q : Rs → HS → Prop) (X18 : Ct) : Ct :=
  o_push (.int 0) <|
  o_istore 2 <|
  o_push (.int 0) <|
  o_istore 3 <|
  X18
def bX5_turns_0 (E : Nat → Value) (Q : Rs → HS → Prop) (X18 : Ct) : Ct :=
  o_iload 1 <|
  o_call 1 (wX5_isRule E) (x_out Q) <|
  o_ifne (bX5_turns_14 E Q X18) <|
  o_aload 0 <|
  o_push (.int (-11)) <|
  o_callV [8] 2 (wX5_fail E) (x_out Q) <|
  o_ireturn .int Q
def wX5_turns (E : Nat → Value) : Wp := fun av h Q => match av with
  | [a0, a1] => ∀ X18 : Ct, (∀ ls st h, bX5_turns_18 E Q X18 ls st h → X18 ls st h) → bX5_turns_0 E Q X18 [a0, a1, jk, jk, jk] [] h
  | _ => False
set_option maxHeartbeats 4000000 in
theorem tX5_turns_126 {x : CX} {E : Nat → Value} {Q : Rs → HS → Prop} {X18 : Ct} (EN : EX x E) (G : Gd x cX5_turns "ChantRulesModel" yX5_turns 5 (Option.some Jvm.ClassFile.FieldType.int) Q) (hF : x.1.2.2.2.frames = 4 ∧ x.1.2.2.2.locals = 107) (hC : x.2.2.2.2.2 = (fun _ => false)) (hxt : (∀ z ∈ x.2.2.1.2.1.exceptionTable.toList, False)) (h18 : Snd x 18 X18) : Snd x 126 (bX5_turns_126 E Q X18) := by
  unfold bX5_turns_126
  refine s_aload_n rfl G.b dX5_turns_126 ?_
  refine s_getf G.b G.ow G.kn (G.hts _ q1910) (fun _ h => h) fa_73 dX5_turns_127 ?_
  refine s_bipush (by decide) G.b dX5_turns_130 ?_
  refine s_dup2 G.b dX5_turns_132 ?_
  refine s_iald G.b G.kn dX5_turns_133 ?_
  refine s_iconst (by decide) G.b dX5_turns_134 ?_
  refine s_iadd G.b dX5_turns_135 ?_
  refine s_iast G.b G.kn dX5_turns_136 ?_
  refine s_iload_n rfl G.b dX5_turns_137 ?_
  exact s_ireturn G dX5_turns_138
set_option maxHeartbeats 4000000 in
theorem tX5_turns_108 {x : CX} {E : Nat → Value} {Q : Rs → HS → Prop} {X18 : Ct} (EN : EX x E) (G : Gd x cX5_turns "ChantRulesModel" yX5_turns 5 (Option.some Jvm.ClassFile.FieldType.int) Q) (hF : x.1.2.2.2.frames = 4 ∧ x.1.2.2.2.locals = 107) (hC : x.2.2.2.2.2 = (fun _ => false)) (hxt : (∀ z ∈ x.2.2.1.2.1.exceptionTable.toList, False)) (h18 : Snd x 18 X18) : Snd x 108 (bX5_turns_108 E Q X18) := by
  unfold bX5_turns_108
  refine s_iload_n rfl G.b dX5_turns_108 ?_
  refine s_ifne (tgt := 126) G.b dX5_turns_109 (by decide) (tX5_turns_126 EN G hF hC hxt h18) ?_
  refine s_aload_n rfl G.b dX5_turns_112 ?_
  refine s_iconst (by decide) G.b dX5_turns_113 ?_
  refine s_aload_n rfl G.b dX5_turns_114 ?_
  refine s_getf G.b G.ow G.kn (G.hts _ q1910) (fun _ h => h) fa_73 dX5_turns_115 ?_
  refine s_iconst (by decide) G.b dX5_turns_118 ?_
  refine s_iload_n rfl G.b dX5_turns_119 ?_
  refine s_iadd G.b dX5_turns_120 ?_
  refine s_iald G.b G.kn dX5_turns_121 ?_
  refine s_callV G (mX5_refuses EN) q2040 q2042 (sel_cons (r := (RX5, TX5, 37)) (by decide) rfl qs35 (sel_nil)) q90 q2043 nmk_255 (rm_of hF (Nat.le_of_ble_eq_true rfl) (Nat.le_of_ble_eq_true rfl)) dX5_turns_122 ?_ (sx_out G (fun z hz => (hxt z hz).elim))
  exact s_ireturn G dX5_turns_125
set_option maxHeartbeats 4000000 in
theorem tX5_turns_65 {x : CX} {E : Nat → Value} {Q : Rs → HS → Prop} {X18 : Ct} (EN : EX x E) (G : Gd x cX5_turns "ChantRulesModel" yX5_turns 5 (Option.some Jvm.ClassFile.FieldType.int) Q) (hF : x.1.2.2.2.frames = 4 ∧ x.1.2.2.2.locals = 107) (hC : x.2.2.2.2.2 = (fun _ => false)) (hxt : (∀ z ∈ x.2.2.1.2.1.exceptionTable.toList, False)) (h18 : Snd x 18 X18) : Snd x 65 (bX5_turns_65 E Q X18) := by
  unfold bX5_turns_65
  refine s_iadd G.b dX5_turns_65 ?_
  refine s_istore_n rfl G.b (by rw [G.nl]; decide) (fun _ _ => by rw [hC]) dX5_turns_66 ?_
  refine s_aload_n rfl G.b dX5_turns_67 ?_
  refine s_getf G.b G.ow G.kn (G.hts _ q1910) (fun _ h => h) fa_73 dX5_turns_68 ?_
  refine s_iload_n rfl G.b dX5_turns_71 ?_
  refine s_iload_n rfl G.b dX5_turns_72 ?_
  refine s_iconst (by decide) G.b dX5_turns_73 ?_
  refine s_callS G (mX5_of EN) q2079 q2080 q90 q2081 nmk_248 (rm_of hF (Nat.le_of_ble_eq_true rfl) (Nat.le_of_ble_eq_true rfl)) dX5_turns_74 ?_ (sx_out G (fun z hz => (hxt z hz).elim))
  refine s_aload_n rfl G.b dX5_turns_77 ?_
  refine s_getf G.b G.ow G.kn (G.hts _ q1910) (fun _ h => h) fa_73 dX5_turns_78 ?_
  refine s_iload_n rfl G.b dX5_turns_81 ?_
  refine s_iload_n rfl G.b dX5_turns_82 ?_
  refine s_iconst (by decide) G.b dX5_turns_83 ?_
  refine s_callS G (mX5_of EN) q2079 q2080 q90 q2081 nmk_248 (rm_of hF (Nat.le_of_ble_eq_true rfl) (Nat.le_of_ble_eq_true rfl)) dX5_turns_84 ?_ (sx_out G (fun z hz => (hxt z hz).elim))
  refine s_iald G.b G.kn dX5_turns_87 ?_
  refine s_iast G.b G.kn dX5_turns_88 ?_
  refine s_aload_n rfl G.b dX5_turns_89 ?_
  refine s_getf G.b G.ow G.kn (G.hts _ q1910) (fun _ h => h) fa_73 dX5_turns_90 ?_
  refine s_iload_n rfl G.b dX5_turns_93 ?_
  refine s_iload_n rfl G.b dX5_turns_94 ?_
  refine s_iconst (by decide) G.b dX5_turns_95 ?_
  refine s_callS G (mX5_of EN) q2079 q2080 q90 q2081 nmk_248 (rm_of hF (Nat.le_of_ble_eq_true rfl) (Nat.le_of_ble_eq_true rfl)) dX5_turns_96 ?_ (sx_out G (fun z hz => (hxt z hz).elim))
  refine s_iload G.b dX5_turns_99 ?_
  refine s_iast G.b G.kn dX5_turns_101 ?_
  refine s_iinc (by decide) G.b (by rw [G.nl]; decide) (fun _ _ => by rw [hC]) dX5_turns_102 ?_
  exact s_goto (tgt := 18) G.b dX5_turns_105 (by decide) h18
set_option maxHeartbeats 4000000 in
theorem tX5_turns_64 {x : CX} {E : Nat → Value} {Q : Rs → HS → Prop} {X18 : Ct} (EN : EX x E) (G : Gd x cX5_turns "ChantRulesModel" yX5_turns 5 (Option.some Jvm.ClassFile.FieldType.int) Q) (hF : x.1.2.2.2.frames = 4 ∧ x.1.2.2.2.locals = 107) (hC : x.2.2.2.2.2 = (fun _ => false)) (hxt : (∀ z ∈ x.2.2.1.2.1.exceptionTable.toList, False)) (h18 : Snd x 18 X18) : Snd x 64 (bX5_turns_64 E Q X18) := by
  unfold bX5_turns_64
  refine s_iconst (by decide) G.b dX5_turns_64 ?_
  exact (tX5_turns_65 EN G hF hC hxt h18)
set_option maxHeartbeats 4000000 in
theorem tX5_turns_18 {x : CX} {E : Nat → Value} {Q : Rs → HS → Prop} {X18 : Ct} (EN : EX x E) (G : Gd x cX5_turns "ChantRulesModel" yX5_turns 5 (Option.some Jvm.ClassFile.FieldType.int) Q) (hF : x.1.2.2.2.frames = 4 ∧ x.1.2.2.2.locals = 107) (hC : x.2.2.2.2.2 = (fun _ => false)) (hxt : (∀ z ∈ x.2.2.1.2.1.exceptionTable.toList, False)) (h18 : Snd x 18 X18) : Snd x 18 (bX5_turns_18 E Q X18) := by
  unfold bX5_turns_18
  refine s_iload_n rfl G.b dX5_turns_18 ?_
  refine s_aload_n rfl G.b dX5_turns_19 ?_
  refine s_getf G.b G.ow G.kn (G.hts _ q1910) (fun _ h => h) fa_73 dX5_turns_20 ?_
  refine s_iconst (by decide) G.b dX5_turns_23 ?_
  refine s_iload_n rfl G.b dX5_turns_24 ?_
  refine s_iadd G.b dX5_turns_25 ?_
  refine s_iald G.b G.kn dX5_turns_26 ?_
  refine s_icmpge (tgt := 108) G.b dX5_turns_27 (by decide) (tX5_turns_108 EN G hF hC hxt h18) ?_
  refine s_aload_n rfl G.b dX5_turns_30 ?_
  refine s_getf G.b G.ow G.kn (G.hts _ q1910) (fun _ h => h) fa_73 dX5_turns_31 ?_
  refine s_iload_n rfl G.b dX5_turns_34 ?_
  refine s_iload_n rfl G.b dX5_turns_35 ?_
  refine s_iconst (by decide) G.b dX5_turns_36 ?_
  refine s_callS G (mX5_of EN) q2079 q2080 q90 q2081 nmk_248 (rm_of hF (Nat.le_of_ble_eq_true rfl) (Nat.le_of_ble_eq_true rfl)) dX5_turns_37 ?_ (sx_out G (fun z hz => (hxt z hz).elim))
  refine s_iald G.b G.kn dX5_turns_40 ?_
  refine s_istore G.b (by rw [G.nl]; decide) (fun _ _ => by rw [hC]) dX5_turns_41 ?_
  refine s_iload_n rfl G.b dX5_turns_43 ?_
  refine s_iload G.b dX5_turns_44 ?_
  refine s_aload_n rfl G.b dX5_turns_46 ?_
  refine s_getf G.b G.ow G.kn (G.hts _ q1910) (fun _ h => h) fa_73 dX5_turns_47 ?_
  refine s_iload_n rfl G.b dX5_turns_50 ?_
  refine s_iload_n rfl G.b dX5_turns_51 ?_
  refine s_iconst (by decide) G.b dX5_turns_52 ?_
  refine s_callS G (mX5_of EN) q2079 q2080 q90 q2081 nmk_248 (rm_of hF (Nat.le_of_ble_eq_true rfl) (Nat.le_of_ble_eq_true rfl)) dX5_turns_53 ?_ (sx_out G (fun z hz => (hxt z hz).elim))
  refine s_iald G.b G.kn dX5_turns_56 ?_
  refine s_icmpne (tgt := 64) G.b dX5_turns_57 (by decide) (tX5_turns_64 EN G hF hC hxt h18) ?_
  refine s_iconst (by decide) G.b dX5_turns_60 ?_
  exact s_goto (tgt := 65) G.b dX5_turns_61 (by decide) (tX5_turns_65 EN G hF hC hxt h18)
set_option maxHeartbeats 4000000 in
theorem tX5_turns_14 {x : CX} {E : Nat → Value} {Q : Rs → HS → Prop} {X18 : Ct} (EN : EX x E) (G : Gd x cX5_turns "ChantRulesModel" yX5_turns 5 (Option.some Jvm.ClassFile.FieldType.int) Q) (hF : x.1.2.2.2.frames = 4 ∧ x.1.2.2.2.locals = 107) (hC : x.2.2.2.2.2 = (fun _ => false)) (hxt : (∀ z ∈ x.2.2.1.2.1.exceptionTable.toList, False)) (h18 : Snd x 18 X18) : Snd x 14 (bX5_turns_14 E Q X18) := by
  unfold bX5_turns_14
  refine s_iconst (by decide) G.b dX5_turns_14 ?_
  refine s_istore_n rfl G.b (by rw [G.nl]; decide) (fun _ _ => by rw [hC]) dX5_turns_15 ?_
  refine s_iconst (by decide) G.b dX5_turns_16 ?_
  refine s_istore_n rfl G.b (by rw [G.nl]; decide) (fun _ _ => by rw [hC]) dX5_turns_17 ?_
  exact h18
set_option maxHeartbeats 4000000 in
theorem tX5_turns_0 {x : CX} {E : Nat → Value} {Q : Rs → HS → Prop} {X18 : Ct} (EN : EX x E) (G : Gd x cX5_turns "ChantRulesModel" yX5_turns 5 (Option.some Jvm.ClassFile.FieldType.int) Q) (hF : x.1.2.2.2.frames = 4 ∧ x.1.2.2.2.locals = 107) (hC : x.2.2.2.2.2 = (fun _ => false)) (hxt : (∀ z ∈ x.2.2.1.2.1.exceptionTable.toList, False)) (h18 : Snd x 18 X18) : Snd x 0 (bX5_turns_0 E Q X18) := by
  unfold bX5_turns_0
  refine s_iload_n rfl G.b dX5_turns_0 ?_
  refine s_callS G (mX5_isRule EN) q2030 q2031 q90 q2032 nmk_253 (rm_of hF (Nat.le_of_ble_eq_true rfl) (Nat.le_of_ble_eq_true rfl)) dX5_turns_1 ?_ (sx_out G (fun z hz => (hxt z hz).elim))
  refine s_ifne (tgt := 14) G.b dX5_turns_4 (by decide) (tX5_turns_14 EN G hF hC hxt h18) ?_
  refine s_aload_n rfl G.b dX5_turns_7 ?_
  refine s_bipush (by decide) G.b dX5_turns_8 ?_
  refine s_callV G (mX5_fail EN) q2036 q2038 (sel_cons (r := (RX5, TX5, 37)) (by decide) rfl qs34 (sel_nil)) q90 q2039 nmk_254 (rm_of hF (Nat.le_of_ble_eq_true rfl) (Nat.le_of_ble_eq_true rfl)) dX5_turns_10 ?_ (sx_out G (fun z hz => (hxt z hz).elim))
  exact s_ireturn G dX5_turns_13
set_option maxHeartbeats 4000000 in
theorem mX5_turns {l : Launch} {D : DE} {s0 : State} {E : Nat → Value} (EN : EV l D s0 E) : rMet l D s0 yX5_turns (ws_ yX5_turns cX5_turns 5 (Option.some Jvm.ClassFile.FieldType.int)) 4 107 (wX5_turns E) := by
  refine body_met (fun _ => false) EN.kn (fun w h => h) (by decide +kernel) rfl (fun av h Q hw => ?_) ?_
  · unfold wX5_turns at hw
    split at hw
    · exact Nat.le_of_ble_eq_true rfl
    · exact hw.elim
  · intro p e s m below meth c av h Q hxt G hw
    unfold wX5_turns at hw
    split at hw
    · exact tX5_turns_0 EN G ⟨rfl, rfl⟩ rfl hxt (fun _ _ _ h => h) _ _ _ (hw (AW _ 18) (tX5_turns_18 EN G ⟨rfl, rfl⟩ rfl hxt (fun _ _ _ h => h)))
    · exact hw.elim
/-! ChantRulesModel.weighs(III)I (X5_weighs) -/
def bX5_weighs_59 (E : Nat → Value) (Q : Rs → HS → Prop) : Ct :=
  o_aload 0 <|
  o_getf [8] 7 <|
  o_iload 1 <|
  o_iload 2 <|
  o_push (.int 4) <|
  o_call 3 (wX5_of E) (x_out Q) <|
  o_iload 3 <|
  o_ast [(100, .int)] <|
  o_iload 4 <|
  o_ireturn .int Q
def bX5_weighs_33 (E : Nat → Value) (Q : Rs → HS → Prop) : Ct :=
  o_aload 0 <|
  o_getf [8] 7 <|
  o_iload 1 <|
  o_iload 2 <|
  o_push (.int 4) <|
  o_call 3 (wX5_of E) (x_out Q) <|
  o_ald [100] <|
  o_istore 4 <|
  o_iload 4 <|
  o_iload 3 <|
  o_icmpne (bX5_weighs_59 E Q) <|
  o_aload 0 <|
  o_push (.int 3) <|
  o_iload 2 <|
  o_callV [8] 3 (wX5_refuses E) (x_out Q) <|
  o_ireturn .int Q
def bX5_weighs_16 (E : Nat → Value) (Q : Rs → HS → Prop) : Ct :=
  o_iload 3 <|
  o_push (.int 0) <|
  o_push (.int 9) <|
  o_call 3 (wX5_isIn E) (x_out Q) <|
  o_ifne (bX5_weighs_33 E Q) <|
  o_aload 0 <|
  o_push (.int (-12)) <|
  o_callV [8] 2 (wX5_fail E) (x_out Q) <|
  o_ireturn .int Q
def bX5_weighs_0 (E : Nat → Value) (Q : Rs → HS → Prop) : Ct :=
  o_aload 0 <|
  o_iload 1 <|
  o_iload 2 <|
  o_callV [8] 3 (wX5_isArc E) (x_out Q) <|
  o_ifne (bX5_weighs_16 E Q) <|
  o_aload 0 <|
  o_push (.int (-11)) <|
  o_callV [8] 2 (wX5_fail E) (x_out Q) <|
  o_ireturn .int Q
def wX5_weighs (E : Nat → Value) : Wp := fun av h Q => match av with
  | [a0, a1, a2, a3] => bX5_weighs_0 E Q [a0, a1, a2, a3, jk] [] h
  | _ => False
set_option maxHeartbeats 4000000 in
theorem tX5_weighs_59 {x : CX} {E : Nat → Value} {Q : Rs → HS → Prop} (EN : EX x E) (G : Gd x cX5_weighs "ChantRulesModel" yX5_weighs 5 (Option.some Jvm.ClassFile.FieldType.int) Q) (hF : x.1.2.2.2.frames = 5 ∧ x.1.2.2.2.locals = 128) (hC : x.2.2.2.2.2 = (fun _ => false)) (hxt : (∀ z ∈ x.2.2.1.2.1.exceptionTable.toList, False)) : Snd x 59 (bX5_weighs_59 E Q) := by
  unfold bX5_weighs_59
  refine s_aload_n rfl G.b dX5_weighs_59 ?_
  refine s_getf G.b G.ow G.kn (G.hts _ q1910) (fun _ h => h) fa_73 dX5_weighs_60 ?_
  refine s_iload_n rfl G.b dX5_weighs_63 ?_
  refine s_iload_n rfl G.b dX5_weighs_64 ?_
  refine s_iconst (by decide) G.b dX5_weighs_65 ?_
  refine s_callS G (mX5_of EN) q2079 q2080 q90 q2081 nmk_248 (rm_of hF (Nat.le_of_ble_eq_true rfl) (Nat.le_of_ble_eq_true rfl)) dX5_weighs_66 ?_ (sx_out G (fun z hz => (hxt z hz).elim))
  refine s_iload_n rfl G.b dX5_weighs_69 ?_
  refine s_iast G.b G.kn dX5_weighs_70 ?_
  refine s_iload G.b dX5_weighs_71 ?_
  exact s_ireturn G dX5_weighs_73
set_option maxHeartbeats 4000000 in
theorem tX5_weighs_33 {x : CX} {E : Nat → Value} {Q : Rs → HS → Prop} (EN : EX x E) (G : Gd x cX5_weighs "ChantRulesModel" yX5_weighs 5 (Option.some Jvm.ClassFile.FieldType.int) Q) (hF : x.1.2.2.2.frames = 5 ∧ x.1.2.2.2.locals = 128) (hC : x.2.2.2.2.2 = (fun _ => false)) (hxt : (∀ z ∈ x.2.2.1.2.1.exceptionTable.toList, False)) : Snd x 33 (bX5_weighs_33 E Q) := by
  unfold bX5_weighs_33
  refine s_aload_n rfl G.b dX5_weighs_33 ?_
  refine s_getf G.b G.ow G.kn (G.hts _ q1910) (fun _ h => h) fa_73 dX5_weighs_34 ?_
  refine s_iload_n rfl G.b dX5_weighs_37 ?_
  refine s_iload_n rfl G.b dX5_weighs_38 ?_
  refine s_iconst (by decide) G.b dX5_weighs_39 ?_
  refine s_callS G (mX5_of EN) q2079 q2080 q90 q2081 nmk_248 (rm_of hF (Nat.le_of_ble_eq_true rfl) (Nat.le_of_ble_eq_true rfl)) dX5_weighs_40 ?_ (sx_out G (fun z hz => (hxt z hz).elim))
  refine s_iald G.b G.kn dX5_weighs_43 ?_
  refine s_istore G.b (by rw [G.nl]; decide) (fun _ _ => by rw [hC]) dX5_weighs_44 ?_
  refine s_iload G.b dX5_weighs_46 ?_
  refine s_iload_n rfl G.b dX5_weighs_48 ?_
  refine s_icmpne (tgt := 59) G.b dX5_weighs_49 (by decide) (tX5_weighs_59 EN G hF hC hxt) ?_
  refine s_aload_n rfl G.b dX5_weighs_52 ?_
  refine s_iconst (by decide) G.b dX5_weighs_53 ?_
  refine s_iload_n rfl G.b dX5_weighs_54 ?_
  refine s_callV G (mX5_refuses EN) q2040 q2042 (sel_cons (r := (RX5, TX5, 37)) (by decide) rfl qs35 (sel_nil)) q90 q2043 nmk_255 (rm_of hF (Nat.le_of_ble_eq_true rfl) (Nat.le_of_ble_eq_true rfl)) dX5_weighs_55 ?_ (sx_out G (fun z hz => (hxt z hz).elim))
  exact s_ireturn G dX5_weighs_58
set_option maxHeartbeats 4000000 in
theorem tX5_weighs_16 {x : CX} {E : Nat → Value} {Q : Rs → HS → Prop} (EN : EX x E) (G : Gd x cX5_weighs "ChantRulesModel" yX5_weighs 5 (Option.some Jvm.ClassFile.FieldType.int) Q) (hF : x.1.2.2.2.frames = 5 ∧ x.1.2.2.2.locals = 128) (hC : x.2.2.2.2.2 = (fun _ => false)) (hxt : (∀ z ∈ x.2.2.1.2.1.exceptionTable.toList, False)) : Snd x 16 (bX5_weighs_16 E Q) := by
  unfold bX5_weighs_16
  refine s_iload_n rfl G.b dX5_weighs_16 ?_
  refine s_iconst (by decide) G.b dX5_weighs_17 ?_
  refine s_bipush (by decide) G.b dX5_weighs_18 ?_
  refine s_callS G (mX5_isIn EN) q2033 q2034 q90 q2035 nmk_251 (rm_of hF (Nat.le_of_ble_eq_true rfl) (Nat.le_of_ble_eq_true rfl)) dX5_weighs_20 ?_ (sx_out G (fun z hz => (hxt z hz).elim))
  refine s_ifne (tgt := 33) G.b dX5_weighs_23 (by decide) (tX5_weighs_33 EN G hF hC hxt) ?_
  refine s_aload_n rfl G.b dX5_weighs_26 ?_
  refine s_bipush (by decide) G.b dX5_weighs_27 ?_
  refine s_callV G (mX5_fail EN) q2036 q2038 (sel_cons (r := (RX5, TX5, 37)) (by decide) rfl qs34 (sel_nil)) q90 q2039 nmk_254 (rm_of hF (Nat.le_of_ble_eq_true rfl) (Nat.le_of_ble_eq_true rfl)) dX5_weighs_29 ?_ (sx_out G (fun z hz => (hxt z hz).elim))
  exact s_ireturn G dX5_weighs_32
set_option maxHeartbeats 4000000 in
theorem tX5_weighs_0 {x : CX} {E : Nat → Value} {Q : Rs → HS → Prop} (EN : EX x E) (G : Gd x cX5_weighs "ChantRulesModel" yX5_weighs 5 (Option.some Jvm.ClassFile.FieldType.int) Q) (hF : x.1.2.2.2.frames = 5 ∧ x.1.2.2.2.locals = 128) (hC : x.2.2.2.2.2 = (fun _ => false)) (hxt : (∀ z ∈ x.2.2.1.2.1.exceptionTable.toList, False)) : Snd x 0 (bX5_weighs_0 E Q) := by
  unfold bX5_weighs_0
  refine s_aload_n rfl G.b dX5_weighs_0 ?_
  refine s_iload_n rfl G.b dX5_weighs_1 ?_
  refine s_iload_n rfl G.b dX5_weighs_2 ?_
  refine s_callV G (mX5_isArc EN) q2090 q2092 (sel_cons (r := (RX5, TX5, 37)) (by decide) rfl qs43 (sel_nil)) q90 q2093 nmk_261 (rm_of hF (Nat.le_of_ble_eq_true rfl) (Nat.le_of_ble_eq_true rfl)) dX5_weighs_3 ?_ (sx_out G (fun z hz => (hxt z hz).elim))
  refine s_ifne (tgt := 16) G.b dX5_weighs_6 (by decide) (tX5_weighs_16 EN G hF hC hxt) ?_
  refine s_aload_n rfl G.b dX5_weighs_9 ?_
  refine s_bipush (by decide) G.b dX5_weighs_10 ?_
  refine s_callV G (mX5_fail EN) q2036 q2038 (sel_cons (r := (RX5, TX5, 37)) (by decide) rfl qs34 (sel_nil)) q90 q2039 nmk_254 (rm_of hF (Nat.le_of_ble_eq_true rfl) (Nat.le_of_ble_eq_true rfl)) dX5_weighs_12 ?_ (sx_out G (fun z hz => (hxt z hz).elim))
  exact s_ireturn G dX5_weighs_15
set_option maxHeartbeats 4000000 in
theorem mX5_weighs {l : Launch} {D : DE} {s0 : State} {E : Nat → Value} (EN : EV l D s0 E) : rMet l D s0 yX5_weighs (ws_ yX5_weighs cX5_weighs 5 (Option.some Jvm.ClassFile.FieldType.int)) 5 128 (wX5_weighs E) := by
  refine body_met (fun _ => false) EN.kn (fun w h => h) (by decide +kernel) rfl (fun av h Q hw => ?_) ?_
  · unfold wX5_weighs at hw
    split at hw
    · exact Nat.le_of_ble_eq_true rfl
    · exact hw.elim
  · intro p e s m below meth c av h Q hxt G hw
    unfold wX5_weighs at hw
    split at hw
    · exact tX5_weighs_0 EN G ⟨rfl, rfl⟩ rfl hxt _ _ _ hw
    · exact hw.elim
/-! ChantRulesModel.does(I)I (X5_does) -/
theorem nmk_286 : nm_ok yX5_turns 1 := ⟨by decide +kernel, by decide +kernel, by decide +kernel⟩
theorem nmk_287 : nm_ok yX5_weighs 3 := ⟨by decide +kernel, by decide +kernel, by decide +kernel⟩
theorem nmk_288 : nm_ok yX5_comes 1 := ⟨by decide +kernel, by decide +kernel, by decide +kernel⟩
def bX5_does_167 (E : Nat → Value) (Q : Rs → HS → Prop) : Ct :=
  o_aload 0 <|
  o_aload 0 <|
  o_getf [8] 32 <|
  o_push (.int 0) <|
  o_ald [100] <|
  o_callV [8] 2 (wX5_turns E) (x_out Q) <|
  o_ireturn .int Q
def bX5_does_150 (E : Nat → Value) (Q : Rs → HS → Prop) : Ct :=
  o_aload 0 <|
  o_aload 0 <|
  o_getf [8] 32 <|
  o_push (.int 0) <|
  o_ald [100] <|
  o_aload 0 <|
  o_getf [8] 32 <|
  o_push (.int 1) <|
  o_ald [100] <|
  o_callV [8] 3 (wX5_drops E) (x_out Q) <|
  o_ireturn .int Q
def bX5_does_127 (E : Nat → Value) (Q : Rs → HS → Prop) : Ct :=
  o_aload 0 <|
  o_aload 0 <|
  o_getf [8] 32 <|
  o_push (.int 0) <|
  o_ald [100] <|
  o_aload 0 <|
  o_getf [8] 32 <|
  o_push (.int 1) <|
  o_ald [100] <|
  o_aload 0 <|
  o_getf [8] 32 <|
  o_push (.int 2) <|
  o_ald [100] <|
  o_callV [8] 4 (wX5_weighs E) (x_out Q) <|
  o_ireturn .int Q
def bX5_does_86 (E : Nat → Value) (Q : Rs → HS → Prop) : Ct :=
  o_aload 0 <|
  o_aload 0 <|
  o_getf [8] 32 <|
  o_push (.int 0) <|
  o_ald [100] <|
  o_aload 0 <|
  o_getf [8] 32 <|
  o_push (.int 1) <|
  o_ald [100] <|
  o_aload 0 <|
  o_getf [8] 32 <|
  o_push (.int 2) <|
  o_ald [100] <|
  o_aload 0 <|
  o_getf [8] 32 <|
  o_push (.int 3) <|
  o_ald [100] <|
  o_aload 0 <|
  o_getf [8] 32 <|
  o_push (.int 4) <|
  o_ald [100] <|
  o_aload 0 <|
  o_getf [8] 32 <|
  o_push (.int 5) <|
  o_ald [100] <|
  o_callV [8] 7 (wX5_tellsArc E) (x_out Q) <|
  o_ireturn .int Q
def bX5_does_63 (E : Nat → Value) (Q : Rs → HS → Prop) : Ct :=
  o_aload 0 <|
  o_aload 0 <|
  o_getf [8] 32 <|
  o_push (.int 0) <|
  o_ald [100] <|
  o_aload 0 <|
  o_getf [8] 32 <|
  o_push (.int 1) <|
  o_ald [100] <|
  o_aload 0 <|
  o_getf [8] 32 <|
  o_push (.int 2) <|
  o_ald [100] <|
  o_callV [8] 4 (wX5_setsEnd E) (x_out Q) <|
  o_ireturn .int Q
def bX5_does_52 (E : Nat → Value) (Q : Rs → HS → Prop) : Ct :=
  o_aload 0 <|
  o_aload 0 <|
  o_getf [8] 32 <|
  o_push (.int 0) <|
  o_ald [100] <|
  o_callV [8] 2 (wX5_comes E) (x_out Q) <|
  o_ireturn .int Q
def bX5_does_0 (E : Nat → Value) (Q : Rs → HS → Prop) : Ct :=
  o_iload 1 <|
  o_sw [(97, (bX5_does_86 E Q)), (100, (bX5_does_150 E Q)), (102, (bX5_does_63 E Q)), (115, (bX5_does_52 E Q)), (119, (bX5_does_127 E Q))] (bX5_does_167 E Q)
def wX5_does (E : Nat → Value) : Wp := fun av h Q => match av with
  | [a0, a1] => bX5_does_0 E Q [a0, a1] [] h
  | _ => False
set_option maxHeartbeats 4000000 in
theorem tX5_does_167 {x : CX} {E : Nat → Value} {Q : Rs → HS → Prop} (EN : EX x E) (G : Gd x cX5_does "ChantRulesModel" yX5_does 2 (Option.some Jvm.ClassFile.FieldType.int) Q) (hF : x.1.2.2.2.frames = 6 ∧ x.1.2.2.2.locals = 156) (hC : x.2.2.2.2.2 = (fun _ => false)) (hxt : (∀ z ∈ x.2.2.1.2.1.exceptionTable.toList, False)) : Snd x 167 (bX5_does_167 E Q) := by
  unfold bX5_does_167
  refine s_aload_n rfl G.b dX5_does_167 ?_
  refine s_aload_n rfl G.b dX5_does_168 ?_
  refine s_getf G.b G.ow G.kn (G.hts _ q1935) (fun _ h => h) fa_83 dX5_does_169 ?_
  refine s_iconst (by decide) G.b dX5_does_172 ?_
  refine s_iald G.b G.kn dX5_does_173 ?_
  refine s_callV G (mX5_turns EN) q2106 q2108 (sel_cons (r := (RX5, TX5, 37)) (by decide) rfl qs45 (sel_nil)) q90 q2109 nmk_286 (rm_of hF (Nat.le_of_ble_eq_true rfl) (Nat.le_of_ble_eq_true rfl)) dX5_does_174 ?_ (sx_out G (fun z hz => (hxt z hz).elim))
  exact s_ireturn G dX5_does_177
set_option maxHeartbeats 4000000 in
theorem tX5_does_150 {x : CX} {E : Nat → Value} {Q : Rs → HS → Prop} (EN : EX x E) (G : Gd x cX5_does "ChantRulesModel" yX5_does 2 (Option.some Jvm.ClassFile.FieldType.int) Q) (hF : x.1.2.2.2.frames = 6 ∧ x.1.2.2.2.locals = 156) (hC : x.2.2.2.2.2 = (fun _ => false)) (hxt : (∀ z ∈ x.2.2.1.2.1.exceptionTable.toList, False)) : Snd x 150 (bX5_does_150 E Q) := by
  unfold bX5_does_150
  refine s_aload_n rfl G.b dX5_does_150 ?_
  refine s_aload_n rfl G.b dX5_does_151 ?_
  refine s_getf G.b G.ow G.kn (G.hts _ q1935) (fun _ h => h) fa_83 dX5_does_152 ?_
  refine s_iconst (by decide) G.b dX5_does_155 ?_
  refine s_iald G.b G.kn dX5_does_156 ?_
  refine s_aload_n rfl G.b dX5_does_157 ?_
  refine s_getf G.b G.ow G.kn (G.hts _ q1935) (fun _ h => h) fa_83 dX5_does_158 ?_
  refine s_iconst (by decide) G.b dX5_does_161 ?_
  refine s_iald G.b G.kn dX5_does_162 ?_
  refine s_callV G (mX5_drops EN) q2098 q2100 (sel_cons (r := (RX5, TX5, 37)) (by decide) rfl qs44 (sel_nil)) q90 q2101 nmk_278 (rm_of hF (Nat.le_of_ble_eq_true rfl) (Nat.le_of_ble_eq_true rfl)) dX5_does_163 ?_ (sx_out G (fun z hz => (hxt z hz).elim))
  exact s_ireturn G dX5_does_166
set_option maxHeartbeats 4000000 in
theorem tX5_does_127 {x : CX} {E : Nat → Value} {Q : Rs → HS → Prop} (EN : EX x E) (G : Gd x cX5_does "ChantRulesModel" yX5_does 2 (Option.some Jvm.ClassFile.FieldType.int) Q) (hF : x.1.2.2.2.frames = 6 ∧ x.1.2.2.2.locals = 156) (hC : x.2.2.2.2.2 = (fun _ => false)) (hxt : (∀ z ∈ x.2.2.1.2.1.exceptionTable.toList, False)) : Snd x 127 (bX5_does_127 E Q) := by
  unfold bX5_does_127
  refine s_aload_n rfl G.b dX5_does_127 ?_
  refine s_aload_n rfl G.b dX5_does_128 ?_
  refine s_getf G.b G.ow G.kn (G.hts _ q1935) (fun _ h => h) fa_83 dX5_does_129 ?_
  refine s_iconst (by decide) G.b dX5_does_132 ?_
  refine s_iald G.b G.kn dX5_does_133 ?_
  refine s_aload_n rfl G.b dX5_does_134 ?_
  refine s_getf G.b G.ow G.kn (G.hts _ q1935) (fun _ h => h) fa_83 dX5_does_135 ?_
  refine s_iconst (by decide) G.b dX5_does_138 ?_
  refine s_iald G.b G.kn dX5_does_139 ?_
  refine s_aload_n rfl G.b dX5_does_140 ?_
  refine s_getf G.b G.ow G.kn (G.hts _ q1935) (fun _ h => h) fa_83 dX5_does_141 ?_
  refine s_iconst (by decide) G.b dX5_does_144 ?_
  refine s_iald G.b G.kn dX5_does_145 ?_
  refine s_callV G (mX5_weighs EN) q2086 q2088 (sel_cons (r := (RX5, TX5, 37)) (by decide) rfl qs42 (sel_nil)) q90 q2089 nmk_287 (rm_of hF (Nat.le_of_ble_eq_true rfl) (Nat.le_of_ble_eq_true rfl)) dX5_does_146 ?_ (sx_out G (fun z hz => (hxt z hz).elim))
  exact s_ireturn G dX5_does_149
set_option maxHeartbeats 4000000 in
theorem tX5_does_86 {x : CX} {E : Nat → Value} {Q : Rs → HS → Prop} (EN : EX x E) (G : Gd x cX5_does "ChantRulesModel" yX5_does 2 (Option.some Jvm.ClassFile.FieldType.int) Q) (hF : x.1.2.2.2.frames = 6 ∧ x.1.2.2.2.locals = 156) (hC : x.2.2.2.2.2 = (fun _ => false)) (hxt : (∀ z ∈ x.2.2.1.2.1.exceptionTable.toList, False)) : Snd x 86 (bX5_does_86 E Q) := by
  unfold bX5_does_86
  refine s_aload_n rfl G.b dX5_does_86 ?_
  refine s_aload_n rfl G.b dX5_does_87 ?_
  refine s_getf G.b G.ow G.kn (G.hts _ q1935) (fun _ h => h) fa_83 dX5_does_88 ?_
  refine s_iconst (by decide) G.b dX5_does_91 ?_
  refine s_iald G.b G.kn dX5_does_92 ?_
  refine s_aload_n rfl G.b dX5_does_93 ?_
  refine s_getf G.b G.ow G.kn (G.hts _ q1935) (fun _ h => h) fa_83 dX5_does_94 ?_
  refine s_iconst (by decide) G.b dX5_does_97 ?_
  refine s_iald G.b G.kn dX5_does_98 ?_
  refine s_aload_n rfl G.b dX5_does_99 ?_
  refine s_getf G.b G.ow G.kn (G.hts _ q1935) (fun _ h => h) fa_83 dX5_does_100 ?_
  refine s_iconst (by decide) G.b dX5_does_103 ?_
  refine s_iald G.b G.kn dX5_does_104 ?_
  refine s_aload_n rfl G.b dX5_does_105 ?_
  refine s_getf G.b G.ow G.kn (G.hts _ q1935) (fun _ h => h) fa_83 dX5_does_106 ?_
  refine s_iconst (by decide) G.b dX5_does_109 ?_
  refine s_iald G.b G.kn dX5_does_110 ?_
  refine s_aload_n rfl G.b dX5_does_111 ?_
  refine s_getf G.b G.ow G.kn (G.hts _ q1935) (fun _ h => h) fa_83 dX5_does_112 ?_
  refine s_iconst (by decide) G.b dX5_does_115 ?_
  refine s_iald G.b G.kn dX5_does_116 ?_
  refine s_aload_n rfl G.b dX5_does_117 ?_
  refine s_getf G.b G.ow G.kn (G.hts _ q1935) (fun _ h => h) fa_83 dX5_does_118 ?_
  refine s_iconst (by decide) G.b dX5_does_121 ?_
  refine s_iald G.b G.kn dX5_does_122 ?_
  refine s_callV G (mX5_tellsArc EN) q2071 q2073 (sel_cons (r := (RX5, TX5, 37)) (by decide) rfl qs40 (sel_nil)) q90 q2074 nmk_259 (rm_of hF (Nat.le_of_ble_eq_true rfl) (Nat.le_of_ble_eq_true rfl)) dX5_does_123 ?_ (sx_out G (fun z hz => (hxt z hz).elim))
  exact s_ireturn G dX5_does_126
set_option maxHeartbeats 4000000 in
theorem tX5_does_63 {x : CX} {E : Nat → Value} {Q : Rs → HS → Prop} (EN : EX x E) (G : Gd x cX5_does "ChantRulesModel" yX5_does 2 (Option.some Jvm.ClassFile.FieldType.int) Q) (hF : x.1.2.2.2.frames = 6 ∧ x.1.2.2.2.locals = 156) (hC : x.2.2.2.2.2 = (fun _ => false)) (hxt : (∀ z ∈ x.2.2.1.2.1.exceptionTable.toList, False)) : Snd x 63 (bX5_does_63 E Q) := by
  unfold bX5_does_63
  refine s_aload_n rfl G.b dX5_does_63 ?_
  refine s_aload_n rfl G.b dX5_does_64 ?_
  refine s_getf G.b G.ow G.kn (G.hts _ q1935) (fun _ h => h) fa_83 dX5_does_65 ?_
  refine s_iconst (by decide) G.b dX5_does_68 ?_
  refine s_iald G.b G.kn dX5_does_69 ?_
  refine s_aload_n rfl G.b dX5_does_70 ?_
  refine s_getf G.b G.ow G.kn (G.hts _ q1935) (fun _ h => h) fa_83 dX5_does_71 ?_
  refine s_iconst (by decide) G.b dX5_does_74 ?_
  refine s_iald G.b G.kn dX5_does_75 ?_
  refine s_aload_n rfl G.b dX5_does_76 ?_
  refine s_getf G.b G.ow G.kn (G.hts _ q1935) (fun _ h => h) fa_83 dX5_does_77 ?_
  refine s_iconst (by decide) G.b dX5_does_80 ?_
  refine s_iald G.b G.kn dX5_does_81 ?_
  refine s_callV G (mX5_setsEnd EN) q2055 q2057 (sel_cons (r := (RX5, TX5, 37)) (by decide) rfl qs37 (sel_nil)) q90 q2058 nmk_279 (rm_of hF (Nat.le_of_ble_eq_true rfl) (Nat.le_of_ble_eq_true rfl)) dX5_does_82 ?_ (sx_out G (fun z hz => (hxt z hz).elim))
  exact s_ireturn G dX5_does_85
set_option maxHeartbeats 4000000 in
theorem tX5_does_52 {x : CX} {E : Nat → Value} {Q : Rs → HS → Prop} (EN : EX x E) (G : Gd x cX5_does "ChantRulesModel" yX5_does 2 (Option.some Jvm.ClassFile.FieldType.int) Q) (hF : x.1.2.2.2.frames = 6 ∧ x.1.2.2.2.locals = 156) (hC : x.2.2.2.2.2 = (fun _ => false)) (hxt : (∀ z ∈ x.2.2.1.2.1.exceptionTable.toList, False)) : Snd x 52 (bX5_does_52 E Q) := by
  unfold bX5_does_52
  refine s_aload_n rfl G.b dX5_does_52 ?_
  refine s_aload_n rfl G.b dX5_does_53 ?_
  refine s_getf G.b G.ow G.kn (G.hts _ q1935) (fun _ h => h) fa_83 dX5_does_54 ?_
  refine s_iconst (by decide) G.b dX5_does_57 ?_
  refine s_iald G.b G.kn dX5_does_58 ?_
  refine s_callV G (mX5_comes EN) q2026 q2028 (sel_cons (r := (RX5, TX5, 37)) (by decide) rfl qs33 (sel_nil)) q90 q2029 nmk_288 (rm_of hF (Nat.le_of_ble_eq_true rfl) (Nat.le_of_ble_eq_true rfl)) dX5_does_59 ?_ (sx_out G (fun z hz => (hxt z hz).elim))
  exact s_ireturn G dX5_does_62
set_option maxHeartbeats 4000000 in
theorem tX5_does_0 {x : CX} {E : Nat → Value} {Q : Rs → HS → Prop} (EN : EX x E) (G : Gd x cX5_does "ChantRulesModel" yX5_does 2 (Option.some Jvm.ClassFile.FieldType.int) Q) (hF : x.1.2.2.2.frames = 6 ∧ x.1.2.2.2.locals = 156) (hC : x.2.2.2.2.2 = (fun _ => false)) (hxt : (∀ z ∈ x.2.2.1.2.1.exceptionTable.toList, False)) : Snd x 0 (bX5_does_0 E Q) := by
  unfold bX5_does_0
  refine s_iload_n rfl G.b dX5_does_0 ?_
  exact s_lsw (tD := 167) G.b dX5_does_1 (by decide) (by decide) (tX5_does_167 EN G hF hC hxt) rfl (lsw_cons 86 (by decide) (by decide) (tX5_does_86 EN G hF hC hxt) (lsw_cons 150 (by decide) (by decide) (tX5_does_150 EN G hF hC hxt) (lsw_cons 63 (by decide) (by decide) (tX5_does_63 EN G hF hC hxt) (lsw_cons 52 (by decide) (by decide) (tX5_does_52 EN G hF hC hxt) (lsw_cons 127 (by decide) (by decide) (tX5_does_127 EN G hF hC hxt) (lsw_nil))))))
set_option maxHeartbeats 4000000 in
theorem mX5_does {l : Launch} {D : DE} {s0 : State} {E : Nat → Value} (EN : EV l D s0 E) : rMet l D s0 yX5_does (ws_ yX5_does cX5_does 2 (Option.some Jvm.ClassFile.FieldType.int)) 6 156 (wX5_does E) := by
  refine body_met (fun _ => false) EN.kn (fun w h => h) (by decide +kernel) rfl (fun av h Q hw => ?_) ?_
  · unfold wX5_does at hw
    split at hw
    · exact Nat.le_of_ble_eq_true rfl
    · exact hw.elim
  · intro p e s m below meth c av h Q hxt G hw
    unfold wX5_does at hw
    split at hw
    · exact tX5_does_0 EN G ⟨rfl, rfl⟩ rfl hxt _ _ _ hw
    · exact hw.elim
/-! ChantRulesModel.endTold()V (X5_endTold) -/
def bX5_endTold_88 (E : Nat → Value) (Q : Rs → HS → Prop) : Ct :=
  o_ast [(100, .int)] <|
  o_return Q
def bX5_endTold_83 (E : Nat → Value) (Q : Rs → HS → Prop) : Ct :=
  o_aload 0 <|
  o_push (.int 1) <|
  o_callV [8] 2 (wX5_digits E) (x_out Q) <|
  (bX5_endTold_88 E Q)
def bX5_endTold_72 (E : Nat → Value) (Q : Rs → HS → Prop) : Ct :=
  o_aload 0 <|
  o_getf [8] 35 <|
  o_ifeq (bX5_endTold_83 E Q) <|
  o_push (.int 0) <|
  (bX5_endTold_88 E Q)
def bX5_endTold_55 (E : Nat → Value) (Q : Rs → HS → Prop) : Ct :=
  o_iadd <|
  o_putf [8] 33 .int <|
  o_aload 0 <|
  o_getf [8] 32 <|
  o_push (.int 2) <|
  o_iload 1 <|
  o_ifeq (bX5_endTold_72 E Q) <|
  o_push (.int (-1)) <|
  (bX5_endTold_88 E Q)
def bX5_endTold_54 (E : Nat → Value) (Q : Rs → HS → Prop) : Ct :=
  o_push (.int 0) <|
  (bX5_endTold_55 E Q)
def bX5_endTold_40 (E : Nat → Value) (Q : Rs → HS → Prop) : Ct :=
  o_istore 1 <|
  o_aload 0 <|
  o_dup <|
  o_getf [8] 33 <|
  o_iload 1 <|
  o_ifeq (bX5_endTold_54 E Q) <|
  o_push (.int 1) <|
  (bX5_endTold_55 E Q)
def bX5_endTold_39 (E : Nat → Value) (Q : Rs → HS → Prop) : Ct :=
  o_push (.int 0) <|
  (bX5_endTold_40 E Q)
def bX5_endTold_0 (E : Nat → Value) (Q : Rs → HS → Prop) : Ct :=
  o_aload 0 <|
  o_getf [8] 32 <|
  o_push (.int 1) <|
  o_aload 0 <|
  o_push (.int 46) <|
  o_push (.int 1) <|
  o_callV [8] 3 (wX5_behind E) (x_out Q) <|
  o_ast [(100, .int)] <|
  o_aload 0 <|
  o_push (.int 61) <|
  o_callV [8] 2 (wX5_mark E) (x_out Q) <|
  o_aload 0 <|
  o_getf [8] 35 <|
  o_ifne (bX5_endTold_39 E Q) <|
  o_aload 0 <|
  o_callV [8] 1 (wX5_next E) (x_out Q) <|
  o_push (.int 45) <|
  o_icmpne (bX5_endTold_39 E Q) <|
  o_push (.int 1) <|
  (bX5_endTold_40 E Q)
def wX5_endTold (E : Nat → Value) : Wp := fun av h Q => match av with
  | [a0] => bX5_endTold_0 E Q [a0, jk] [] h
  | _ => False
set_option maxHeartbeats 4000000 in
theorem tX5_endTold_88 {x : CX} {E : Nat → Value} {Q : Rs → HS → Prop} (EN : EX x E) (G : Gd x cX5_endTold "ChantRulesModel" yX5_endTold 2 (Option.none : Option Jvm.ClassFile.FieldType) Q) (hF : x.1.2.2.2.frames = 5 ∧ x.1.2.2.2.locals = 131) (hC : x.2.2.2.2.2 = (fun _ => false)) (hxt : (∀ z ∈ x.2.2.1.2.1.exceptionTable.toList, False)) : Snd x 88 (bX5_endTold_88 E Q) := by
  unfold bX5_endTold_88
  refine s_iast G.b G.kn dX5_endTold_88 ?_
  exact s_return G dX5_endTold_89
set_option maxHeartbeats 4000000 in
theorem tX5_endTold_83 {x : CX} {E : Nat → Value} {Q : Rs → HS → Prop} (EN : EX x E) (G : Gd x cX5_endTold "ChantRulesModel" yX5_endTold 2 (Option.none : Option Jvm.ClassFile.FieldType) Q) (hF : x.1.2.2.2.frames = 5 ∧ x.1.2.2.2.locals = 131) (hC : x.2.2.2.2.2 = (fun _ => false)) (hxt : (∀ z ∈ x.2.2.1.2.1.exceptionTable.toList, False)) : Snd x 83 (bX5_endTold_83 E Q) := by
  unfold bX5_endTold_83
  refine s_aload_n rfl G.b dX5_endTold_83 ?_
  refine s_iconst (by decide) G.b dX5_endTold_84 ?_
  refine s_callV G (mX5_digits EN) q2259 q2261 (sel_cons (r := (RX5, TX5, 37)) (by decide) rfl qs67 (sel_nil)) q90 q2262 nmk_282 (rm_of hF (Nat.le_of_ble_eq_true rfl) (Nat.le_of_ble_eq_true rfl)) dX5_endTold_85 ?_ (sx_out G (fun z hz => (hxt z hz).elim))
  exact (tX5_endTold_88 EN G hF hC hxt)
set_option maxHeartbeats 4000000 in
theorem tX5_endTold_72 {x : CX} {E : Nat → Value} {Q : Rs → HS → Prop} (EN : EX x E) (G : Gd x cX5_endTold "ChantRulesModel" yX5_endTold 2 (Option.none : Option Jvm.ClassFile.FieldType) Q) (hF : x.1.2.2.2.frames = 5 ∧ x.1.2.2.2.locals = 131) (hC : x.2.2.2.2.2 = (fun _ => false)) (hxt : (∀ z ∈ x.2.2.1.2.1.exceptionTable.toList, False)) : Snd x 72 (bX5_endTold_72 E Q) := by
  unfold bX5_endTold_72
  refine s_aload_n rfl G.b dX5_endTold_72 ?_
  refine s_getf G.b G.ow G.kn (G.hts _ q1938) (fun _ h => h) fa_108 dX5_endTold_73 ?_
  refine s_ifeq (tgt := 83) G.b dX5_endTold_76 (by decide) (tX5_endTold_83 EN G hF hC hxt) ?_
  refine s_iconst (by decide) G.b dX5_endTold_79 ?_
  exact s_goto (tgt := 88) G.b dX5_endTold_80 (by decide) (tX5_endTold_88 EN G hF hC hxt)
set_option maxHeartbeats 4000000 in
theorem tX5_endTold_55 {x : CX} {E : Nat → Value} {Q : Rs → HS → Prop} (EN : EX x E) (G : Gd x cX5_endTold "ChantRulesModel" yX5_endTold 2 (Option.none : Option Jvm.ClassFile.FieldType) Q) (hF : x.1.2.2.2.frames = 5 ∧ x.1.2.2.2.locals = 131) (hC : x.2.2.2.2.2 = (fun _ => false)) (hxt : (∀ z ∈ x.2.2.1.2.1.exceptionTable.toList, False)) : Snd x 55 (bX5_endTold_55 E Q) := by
  unfold bX5_endTold_55
  refine s_iadd G.b dX5_endTold_55 ?_
  refine s_putf G.b G.ow G.kn (G.hts _ q1936) (fun _ h => h) fa_106 (la_cons (r := (RX5, TX5, 37)) G.hts (by decide) rfl q2006 (la_nil)) (by decide +kernel) dX5_endTold_56 ?_
  refine s_aload_n rfl G.b dX5_endTold_59 ?_
  refine s_getf G.b G.ow G.kn (G.hts _ q1935) (fun _ h => h) fa_83 dX5_endTold_60 ?_
  refine s_iconst (by decide) G.b dX5_endTold_63 ?_
  refine s_iload_n rfl G.b dX5_endTold_64 ?_
  refine s_ifeq (tgt := 72) G.b dX5_endTold_65 (by decide) (tX5_endTold_72 EN G hF hC hxt) ?_
  refine s_iconst (by decide) G.b dX5_endTold_68 ?_
  exact s_goto (tgt := 88) G.b dX5_endTold_69 (by decide) (tX5_endTold_88 EN G hF hC hxt)
set_option maxHeartbeats 4000000 in
theorem tX5_endTold_54 {x : CX} {E : Nat → Value} {Q : Rs → HS → Prop} (EN : EX x E) (G : Gd x cX5_endTold "ChantRulesModel" yX5_endTold 2 (Option.none : Option Jvm.ClassFile.FieldType) Q) (hF : x.1.2.2.2.frames = 5 ∧ x.1.2.2.2.locals = 131) (hC : x.2.2.2.2.2 = (fun _ => false)) (hxt : (∀ z ∈ x.2.2.1.2.1.exceptionTable.toList, False)) : Snd x 54 (bX5_endTold_54 E Q) := by
  unfold bX5_endTold_54
  refine s_iconst (by decide) G.b dX5_endTold_54 ?_
  exact (tX5_endTold_55 EN G hF hC hxt)
set_option maxHeartbeats 4000000 in
theorem tX5_endTold_40 {x : CX} {E : Nat → Value} {Q : Rs → HS → Prop} (EN : EX x E) (G : Gd x cX5_endTold "ChantRulesModel" yX5_endTold 2 (Option.none : Option Jvm.ClassFile.FieldType) Q) (hF : x.1.2.2.2.frames = 5 ∧ x.1.2.2.2.locals = 131) (hC : x.2.2.2.2.2 = (fun _ => false)) (hxt : (∀ z ∈ x.2.2.1.2.1.exceptionTable.toList, False)) : Snd x 40 (bX5_endTold_40 E Q) := by
  unfold bX5_endTold_40
  refine s_istore_n rfl G.b (by rw [G.nl]; decide) (fun _ _ => by rw [hC]) dX5_endTold_40 ?_
  refine s_aload_n rfl G.b dX5_endTold_41 ?_
  refine s_dup G.b dX5_endTold_42 ?_
  refine s_getf G.b G.ow G.kn (G.hts _ q1936) (fun _ h => h) fa_106 dX5_endTold_43 ?_
  refine s_iload_n rfl G.b dX5_endTold_46 ?_
  refine s_ifeq (tgt := 54) G.b dX5_endTold_47 (by decide) (tX5_endTold_54 EN G hF hC hxt) ?_
  refine s_iconst (by decide) G.b dX5_endTold_50 ?_
  exact s_goto (tgt := 55) G.b dX5_endTold_51 (by decide) (tX5_endTold_55 EN G hF hC hxt)
set_option maxHeartbeats 4000000 in
theorem tX5_endTold_39 {x : CX} {E : Nat → Value} {Q : Rs → HS → Prop} (EN : EX x E) (G : Gd x cX5_endTold "ChantRulesModel" yX5_endTold 2 (Option.none : Option Jvm.ClassFile.FieldType) Q) (hF : x.1.2.2.2.frames = 5 ∧ x.1.2.2.2.locals = 131) (hC : x.2.2.2.2.2 = (fun _ => false)) (hxt : (∀ z ∈ x.2.2.1.2.1.exceptionTable.toList, False)) : Snd x 39 (bX5_endTold_39 E Q) := by
  unfold bX5_endTold_39
  refine s_iconst (by decide) G.b dX5_endTold_39 ?_
  exact (tX5_endTold_40 EN G hF hC hxt)
set_option maxHeartbeats 4000000 in
theorem tX5_endTold_0 {x : CX} {E : Nat → Value} {Q : Rs → HS → Prop} (EN : EX x E) (G : Gd x cX5_endTold "ChantRulesModel" yX5_endTold 2 (Option.none : Option Jvm.ClassFile.FieldType) Q) (hF : x.1.2.2.2.frames = 5 ∧ x.1.2.2.2.locals = 131) (hC : x.2.2.2.2.2 = (fun _ => false)) (hxt : (∀ z ∈ x.2.2.1.2.1.exceptionTable.toList, False)) : Snd x 0 (bX5_endTold_0 E Q) := by
  unfold bX5_endTold_0
  refine s_aload_n rfl G.b dX5_endTold_0 ?_
  refine s_getf G.b G.ow G.kn (G.hts _ q1935) (fun _ h => h) fa_83 dX5_endTold_1 ?_
  refine s_iconst (by decide) G.b dX5_endTold_4 ?_
  refine s_aload_n rfl G.b dX5_endTold_5 ?_
  refine s_bipush (by decide) G.b dX5_endTold_6 ?_
  refine s_iconst (by decide) G.b dX5_endTold_8 ?_
  refine s_callV G (mX5_behind EN) q2267 q2269 (sel_cons (r := (RX5, TX5, 37)) (by decide) rfl qs69 (sel_nil)) q90 q2270 nmk_284 (rm_of hF (Nat.le_of_ble_eq_true rfl) (Nat.le_of_ble_eq_true rfl)) dX5_endTold_9 ?_ (sx_out G (fun z hz => (hxt z hz).elim))
  refine s_iast G.b G.kn dX5_endTold_12 ?_
  refine s_aload_n rfl G.b dX5_endTold_13 ?_
  refine s_bipush (by decide) G.b dX5_endTold_14 ?_
  refine s_callV G (mX5_mark EN) q2271 q2273 (sel_cons (r := (RX5, TX5, 37)) (by decide) rfl qs70 (sel_nil)) q90 q2274 nmk_283 (rm_of hF (Nat.le_of_ble_eq_true rfl) (Nat.le_of_ble_eq_true rfl)) dX5_endTold_16 ?_ (sx_out G (fun z hz => (hxt z hz).elim))
  refine s_aload_n rfl G.b dX5_endTold_19 ?_
  refine s_getf G.b G.ow G.kn (G.hts _ q1938) (fun _ h => h) fa_108 dX5_endTold_20 ?_
  refine s_ifne (tgt := 39) G.b dX5_endTold_23 (by decide) (tX5_endTold_39 EN G hF hC hxt) ?_
  refine s_aload_n rfl G.b dX5_endTold_26 ?_
  refine s_callV G (mX5_next EN) q2255 q2257 (sel_cons (r := (RX5, TX5, 37)) (by decide) rfl qs66 (sel_nil)) q90 q2258 nmk_281 (rm_of hF (Nat.le_of_ble_eq_true rfl) (Nat.le_of_ble_eq_true rfl)) dX5_endTold_27 ?_ (sx_out G (fun z hz => (hxt z hz).elim))
  refine s_bipush (by decide) G.b dX5_endTold_30 ?_
  refine s_icmpne (tgt := 39) G.b dX5_endTold_32 (by decide) (tX5_endTold_39 EN G hF hC hxt) ?_
  refine s_iconst (by decide) G.b dX5_endTold_35 ?_
  exact s_goto (tgt := 40) G.b dX5_endTold_36 (by decide) (tX5_endTold_40 EN G hF hC hxt)
set_option maxHeartbeats 4000000 in
theorem mX5_endTold {l : Launch} {D : DE} {s0 : State} {E : Nat → Value} (EN : EV l D s0 E) : rMet l D s0 yX5_endTold (ws_ yX5_endTold cX5_endTold 2 (Option.none : Option Jvm.ClassFile.FieldType)) 5 131 (wX5_endTold E) := by
  refine body_met (fun _ => false) EN.kn (fun w h => h) (by decide +kernel) rfl (fun av h Q hw => ?_) ?_
  · unfold wX5_endTold at hw
    split at hw
    · exact Nat.le_of_ble_eq_true rfl
    · exact hw.elim
  · intro p e s m below meth c av h Q hxt G hw
    unfold wX5_endTold at hw
    split at hw
    · exact tX5_endTold_0 EN G ⟨rfl, rfl⟩ rfl hxt _ _ _ hw
    · exact hw.elim
/-! ChantRulesModel.order()V (X5_order) -/
theorem nmk_289 : nm_ok yX5_does 1 := ⟨by decide +kernel, by decide +kernel, by decide +kernel⟩
theorem fa_109 : fieldAt [8] 36 "ChantRulesModel" "isDoing" "Z" := fa_cons (r := (RX5, TX5, 37)) rfl (by decide) rfl rfl rfl (fa_nil)
theorem nmk_290 : nm_ok yX5_arcTold 0 := ⟨by decide +kernel, by decide +kernel, by decide +kernel⟩
theorem nmk_291 : nm_ok yX5_endTold 0 := ⟨by decide +kernel, by decide +kernel, by decide +kernel⟩
def bX5_order_158 (E : Nat → Value) (Q : Rs → HS → Prop) : Ct :=
  o_aload 0 <|
  o_iload 1 <|
  o_callV [8] 2 (wX5_does E) (x_out Q) <|
  o_istore 2 <|
  o_return Q
def bX5_order_157 (E : Nat → Value) (Q : Rs → HS → Prop) : Ct :=
  o_return Q
def bX5_order_143 (E : Nat → Value) (Q : Rs → HS → Prop) : Ct :=
  o_aload 0 <|
  o_getf [8] 35 <|
  o_ifne (bX5_order_157 E Q) <|
  o_aload 0 <|
  o_getf [8] 36 <|
  o_ifne (bX5_order_158 E Q) <|
  (bX5_order_157 E Q)
def bX5_order_124 (E : Nat → Value) (Q : Rs → HS → Prop) : Ct :=
  o_iload 1 <|
  o_push (.int 119) <|
  o_icmpne (bX5_order_143 E Q) <|
  o_aload 0 <|
  o_getf [8] 32 <|
  o_push (.int 2) <|
  o_aload 0 <|
  o_push (.int 61) <|
  o_push (.int 1) <|
  o_callV [8] 3 (wX5_behind E) (x_out Q) <|
  o_ast [(100, .int)] <|
  (bX5_order_143 E Q)
def bX5_order_111 (E : Nat → Value) (Q : Rs → HS → Prop) : Ct :=
  o_aload 0 <|
  o_getf [8] 32 <|
  o_push (.int 1) <|
  o_aload 0 <|
  o_push (.int 46) <|
  o_push (.int 2) <|
  o_callV [8] 3 (wX5_behind E) (x_out Q) <|
  o_ast [(100, .int)] <|
  (bX5_order_124 E Q)
def bX5_order_99 (E : Nat → Value) (Q : Rs → HS → Prop) : Ct :=
  o_iload 1 <|
  o_push (.int 119) <|
  o_icmpeq (bX5_order_111 E Q) <|
  o_iload 1 <|
  o_push (.int 100) <|
  o_icmpne (bX5_order_124 E Q) <|
  (bX5_order_111 E Q)
def bX5_order_89 (E : Nat → Value) (Q : Rs → HS → Prop) : Ct :=
  o_iload 1 <|
  o_push (.int 97) <|
  o_icmpne (bX5_order_99 E Q) <|
  o_aload 0 <|
  o_callV [8] 1 (wX5_arcTold E) (x_out Q) <|
  (bX5_order_99 E Q)
def bX5_order_58 (E : Nat → Value) (Q : Rs → HS → Prop) : Ct :=
  o_aload 0 <|
  o_dup <|
  o_getf [8] 33 <|
  o_push (.int 1) <|
  o_iadd <|
  o_putf [8] 33 .int <|
  o_aload 0 <|
  o_getf [8] 32 <|
  o_push (.int 0) <|
  o_aload 0 <|
  o_push (.int 1) <|
  o_callV [8] 2 (wX5_digits E) (x_out Q) <|
  o_ast [(100, .int)] <|
  o_iload 1 <|
  o_push (.int 102) <|
  o_icmpne (bX5_order_89 E Q) <|
  o_aload 0 <|
  o_callV [8] 1 (wX5_endTold E) (x_out Q) <|
  (bX5_order_89 E Q)
def bX5_order_47 (E : Nat → Value) (Q : Rs → HS → Prop) : Ct :=
  o_putf [8] 35 .boolean <|
  o_aload 0 <|
  o_getf [8] 35 <|
  o_ifeq (bX5_order_58 E Q) <|
  o_return Q
def bX5_order_46 (E : Nat → Value) (Q : Rs → HS → Prop) : Ct :=
  o_push (.int 0) <|
  (bX5_order_47 E Q)
def bX5_order_0 (E : Nat → Value) (Q : Rs → HS → Prop) : Ct :=
  o_aload 0 <|
  o_callV [8] 1 (wX5_next E) (x_out Q) <|
  o_istore 1 <|
  o_aload 0 <|
  o_iload 1 <|
  o_push (.int 115) <|
  o_icmpeq (bX5_order_46 E Q) <|
  o_iload 1 <|
  o_push (.int 102) <|
  o_icmpeq (bX5_order_46 E Q) <|
  o_iload 1 <|
  o_push (.int 97) <|
  o_icmpeq (bX5_order_46 E Q) <|
  o_iload 1 <|
  o_push (.int 119) <|
  o_icmpeq (bX5_order_46 E Q) <|
  o_iload 1 <|
  o_push (.int 100) <|
  o_icmpeq (bX5_order_46 E Q) <|
  o_iload 1 <|
  o_push (.int 116) <|
  o_icmpeq (bX5_order_46 E Q) <|
  o_push (.int 1) <|
  (bX5_order_47 E Q)
def wX5_order (E : Nat → Value) : Wp := fun av h Q => match av with
  | [a0] => bX5_order_0 E Q [a0, jk, jk] [] h
  | _ => False
set_option maxHeartbeats 4000000 in
theorem tX5_order_158 {x : CX} {E : Nat → Value} {Q : Rs → HS → Prop} (EN : EX x E) (G : Gd x cX5_order "ChantRulesModel" yX5_order 3 (Option.none : Option Jvm.ClassFile.FieldType) Q) (hF : x.1.2.2.2.frames = 7 ∧ x.1.2.2.2.locals = 177) (hC : x.2.2.2.2.2 = (fun _ => false)) (hxt : (∀ z ∈ x.2.2.1.2.1.exceptionTable.toList, False)) : Snd x 158 (bX5_order_158 E Q) := by
  unfold bX5_order_158
  refine s_aload_n rfl G.b dX5_order_158 ?_
  refine s_iload_n rfl G.b dX5_order_159 ?_
  refine s_callV G (mX5_does EN) q2283 q2285 (sel_cons (r := (RX5, TX5, 37)) (by decide) rfl qs73 (sel_nil)) q90 q2286 nmk_289 (rm_of hF (Nat.le_of_ble_eq_true rfl) (Nat.le_of_ble_eq_true rfl)) dX5_order_160 ?_ (sx_out G (fun z hz => (hxt z hz).elim))
  refine s_istore_n rfl G.b (by rw [G.nl]; decide) (fun _ _ => by rw [hC]) dX5_order_163 ?_
  exact s_return G dX5_order_164
set_option maxHeartbeats 4000000 in
theorem tX5_order_157 {x : CX} {E : Nat → Value} {Q : Rs → HS → Prop} (EN : EX x E) (G : Gd x cX5_order "ChantRulesModel" yX5_order 3 (Option.none : Option Jvm.ClassFile.FieldType) Q) (hF : x.1.2.2.2.frames = 7 ∧ x.1.2.2.2.locals = 177) (hC : x.2.2.2.2.2 = (fun _ => false)) (hxt : (∀ z ∈ x.2.2.1.2.1.exceptionTable.toList, False)) : Snd x 157 (bX5_order_157 E Q) := by
  unfold bX5_order_157
  exact s_return G dX5_order_157
set_option maxHeartbeats 4000000 in
theorem tX5_order_143 {x : CX} {E : Nat → Value} {Q : Rs → HS → Prop} (EN : EX x E) (G : Gd x cX5_order "ChantRulesModel" yX5_order 3 (Option.none : Option Jvm.ClassFile.FieldType) Q) (hF : x.1.2.2.2.frames = 7 ∧ x.1.2.2.2.locals = 177) (hC : x.2.2.2.2.2 = (fun _ => false)) (hxt : (∀ z ∈ x.2.2.1.2.1.exceptionTable.toList, False)) : Snd x 143 (bX5_order_143 E Q) := by
  unfold bX5_order_143
  refine s_aload_n rfl G.b dX5_order_143 ?_
  refine s_getf G.b G.ow G.kn (G.hts _ q1938) (fun _ h => h) fa_108 dX5_order_144 ?_
  refine s_ifne (tgt := 157) G.b dX5_order_147 (by decide) (tX5_order_157 EN G hF hC hxt) ?_
  refine s_aload_n rfl G.b dX5_order_150 ?_
  refine s_getf G.b G.ow G.kn (G.hts _ q1939) (fun _ h => h) fa_109 dX5_order_151 ?_
  refine s_ifne (tgt := 158) G.b dX5_order_154 (by decide) (tX5_order_158 EN G hF hC hxt) ?_
  exact (tX5_order_157 EN G hF hC hxt)
set_option maxHeartbeats 4000000 in
theorem tX5_order_124 {x : CX} {E : Nat → Value} {Q : Rs → HS → Prop} (EN : EX x E) (G : Gd x cX5_order "ChantRulesModel" yX5_order 3 (Option.none : Option Jvm.ClassFile.FieldType) Q) (hF : x.1.2.2.2.frames = 7 ∧ x.1.2.2.2.locals = 177) (hC : x.2.2.2.2.2 = (fun _ => false)) (hxt : (∀ z ∈ x.2.2.1.2.1.exceptionTable.toList, False)) : Snd x 124 (bX5_order_124 E Q) := by
  unfold bX5_order_124
  refine s_iload_n rfl G.b dX5_order_124 ?_
  refine s_bipush (by decide) G.b dX5_order_125 ?_
  refine s_icmpne (tgt := 143) G.b dX5_order_127 (by decide) (tX5_order_143 EN G hF hC hxt) ?_
  refine s_aload_n rfl G.b dX5_order_130 ?_
  refine s_getf G.b G.ow G.kn (G.hts _ q1935) (fun _ h => h) fa_83 dX5_order_131 ?_
  refine s_iconst (by decide) G.b dX5_order_134 ?_
  refine s_aload_n rfl G.b dX5_order_135 ?_
  refine s_bipush (by decide) G.b dX5_order_136 ?_
  refine s_iconst (by decide) G.b dX5_order_138 ?_
  refine s_callV G (mX5_behind EN) q2267 q2269 (sel_cons (r := (RX5, TX5, 37)) (by decide) rfl qs69 (sel_nil)) q90 q2270 nmk_284 (rm_of hF (Nat.le_of_ble_eq_true rfl) (Nat.le_of_ble_eq_true rfl)) dX5_order_139 ?_ (sx_out G (fun z hz => (hxt z hz).elim))
  refine s_iast G.b G.kn dX5_order_142 ?_
  exact (tX5_order_143 EN G hF hC hxt)
set_option maxHeartbeats 4000000 in
theorem tX5_order_111 {x : CX} {E : Nat → Value} {Q : Rs → HS → Prop} (EN : EX x E) (G : Gd x cX5_order "ChantRulesModel" yX5_order 3 (Option.none : Option Jvm.ClassFile.FieldType) Q) (hF : x.1.2.2.2.frames = 7 ∧ x.1.2.2.2.locals = 177) (hC : x.2.2.2.2.2 = (fun _ => false)) (hxt : (∀ z ∈ x.2.2.1.2.1.exceptionTable.toList, False)) : Snd x 111 (bX5_order_111 E Q) := by
  unfold bX5_order_111
  refine s_aload_n rfl G.b dX5_order_111 ?_
  refine s_getf G.b G.ow G.kn (G.hts _ q1935) (fun _ h => h) fa_83 dX5_order_112 ?_
  refine s_iconst (by decide) G.b dX5_order_115 ?_
  refine s_aload_n rfl G.b dX5_order_116 ?_
  refine s_bipush (by decide) G.b dX5_order_117 ?_
  refine s_iconst (by decide) G.b dX5_order_119 ?_
  refine s_callV G (mX5_behind EN) q2267 q2269 (sel_cons (r := (RX5, TX5, 37)) (by decide) rfl qs69 (sel_nil)) q90 q2270 nmk_284 (rm_of hF (Nat.le_of_ble_eq_true rfl) (Nat.le_of_ble_eq_true rfl)) dX5_order_120 ?_ (sx_out G (fun z hz => (hxt z hz).elim))
  refine s_iast G.b G.kn dX5_order_123 ?_
  exact (tX5_order_124 EN G hF hC hxt)
set_option maxHeartbeats 4000000 in
theorem tX5_order_99 {x : CX} {E : Nat → Value} {Q : Rs → HS → Prop} (EN : EX x E) (G : Gd x cX5_order "ChantRulesModel" yX5_order 3 (Option.none : Option Jvm.ClassFile.FieldType) Q) (hF : x.1.2.2.2.frames = 7 ∧ x.1.2.2.2.locals = 177) (hC : x.2.2.2.2.2 = (fun _ => false)) (hxt : (∀ z ∈ x.2.2.1.2.1.exceptionTable.toList, False)) : Snd x 99 (bX5_order_99 E Q) := by
  unfold bX5_order_99
  refine s_iload_n rfl G.b dX5_order_99 ?_
  refine s_bipush (by decide) G.b dX5_order_100 ?_
  refine s_icmpeq (tgt := 111) G.b dX5_order_102 (by decide) (tX5_order_111 EN G hF hC hxt) ?_
  refine s_iload_n rfl G.b dX5_order_105 ?_
  refine s_bipush (by decide) G.b dX5_order_106 ?_
  refine s_icmpne (tgt := 124) G.b dX5_order_108 (by decide) (tX5_order_124 EN G hF hC hxt) ?_
  exact (tX5_order_111 EN G hF hC hxt)
set_option maxHeartbeats 4000000 in
theorem tX5_order_89 {x : CX} {E : Nat → Value} {Q : Rs → HS → Prop} (EN : EX x E) (G : Gd x cX5_order "ChantRulesModel" yX5_order 3 (Option.none : Option Jvm.ClassFile.FieldType) Q) (hF : x.1.2.2.2.frames = 7 ∧ x.1.2.2.2.locals = 177) (hC : x.2.2.2.2.2 = (fun _ => false)) (hxt : (∀ z ∈ x.2.2.1.2.1.exceptionTable.toList, False)) : Snd x 89 (bX5_order_89 E Q) := by
  unfold bX5_order_89
  refine s_iload_n rfl G.b dX5_order_89 ?_
  refine s_bipush (by decide) G.b dX5_order_90 ?_
  refine s_icmpne (tgt := 99) G.b dX5_order_92 (by decide) (tX5_order_99 EN G hF hC hxt) ?_
  refine s_aload_n rfl G.b dX5_order_95 ?_
  refine s_callV G (mX5_arcTold EN) q2275 q2277 (sel_cons (r := (RX5, TX5, 37)) (by decide) rfl qs71 (sel_nil)) q90 q2278 nmk_290 (rm_of hF (Nat.le_of_ble_eq_true rfl) (Nat.le_of_ble_eq_true rfl)) dX5_order_96 ?_ (sx_out G (fun z hz => (hxt z hz).elim))
  exact (tX5_order_99 EN G hF hC hxt)
set_option maxHeartbeats 4000000 in
theorem tX5_order_58 {x : CX} {E : Nat → Value} {Q : Rs → HS → Prop} (EN : EX x E) (G : Gd x cX5_order "ChantRulesModel" yX5_order 3 (Option.none : Option Jvm.ClassFile.FieldType) Q) (hF : x.1.2.2.2.frames = 7 ∧ x.1.2.2.2.locals = 177) (hC : x.2.2.2.2.2 = (fun _ => false)) (hxt : (∀ z ∈ x.2.2.1.2.1.exceptionTable.toList, False)) : Snd x 58 (bX5_order_58 E Q) := by
  unfold bX5_order_58
  refine s_aload_n rfl G.b dX5_order_58 ?_
  refine s_dup G.b dX5_order_59 ?_
  refine s_getf G.b G.ow G.kn (G.hts _ q1936) (fun _ h => h) fa_106 dX5_order_60 ?_
  refine s_iconst (by decide) G.b dX5_order_63 ?_
  refine s_iadd G.b dX5_order_64 ?_
  refine s_putf G.b G.ow G.kn (G.hts _ q1936) (fun _ h => h) fa_106 (la_cons (r := (RX5, TX5, 37)) G.hts (by decide) rfl q2006 (la_nil)) (by decide +kernel) dX5_order_65 ?_
  refine s_aload_n rfl G.b dX5_order_68 ?_
  refine s_getf G.b G.ow G.kn (G.hts _ q1935) (fun _ h => h) fa_83 dX5_order_69 ?_
  refine s_iconst (by decide) G.b dX5_order_72 ?_
  refine s_aload_n rfl G.b dX5_order_73 ?_
  refine s_iconst (by decide) G.b dX5_order_74 ?_
  refine s_callV G (mX5_digits EN) q2259 q2261 (sel_cons (r := (RX5, TX5, 37)) (by decide) rfl qs67 (sel_nil)) q90 q2262 nmk_282 (rm_of hF (Nat.le_of_ble_eq_true rfl) (Nat.le_of_ble_eq_true rfl)) dX5_order_75 ?_ (sx_out G (fun z hz => (hxt z hz).elim))
  refine s_iast G.b G.kn dX5_order_78 ?_
  refine s_iload_n rfl G.b dX5_order_79 ?_
  refine s_bipush (by decide) G.b dX5_order_80 ?_
  refine s_icmpne (tgt := 89) G.b dX5_order_82 (by decide) (tX5_order_89 EN G hF hC hxt) ?_
  refine s_aload_n rfl G.b dX5_order_85 ?_
  refine s_callV G (mX5_endTold EN) q2263 q2265 (sel_cons (r := (RX5, TX5, 37)) (by decide) rfl qs68 (sel_nil)) q90 q2266 nmk_291 (rm_of hF (Nat.le_of_ble_eq_true rfl) (Nat.le_of_ble_eq_true rfl)) dX5_order_86 ?_ (sx_out G (fun z hz => (hxt z hz).elim))
  exact (tX5_order_89 EN G hF hC hxt)
set_option maxHeartbeats 4000000 in
theorem tX5_order_47 {x : CX} {E : Nat → Value} {Q : Rs → HS → Prop} (EN : EX x E) (G : Gd x cX5_order "ChantRulesModel" yX5_order 3 (Option.none : Option Jvm.ClassFile.FieldType) Q) (hF : x.1.2.2.2.frames = 7 ∧ x.1.2.2.2.locals = 177) (hC : x.2.2.2.2.2 = (fun _ => false)) (hxt : (∀ z ∈ x.2.2.1.2.1.exceptionTable.toList, False)) : Snd x 47 (bX5_order_47 E Q) := by
  unfold bX5_order_47
  refine s_putf G.b G.ow G.kn (G.hts _ q1938) (fun _ h => h) fa_108 (la_cons (r := (RX5, TX5, 37)) G.hts (by decide) rfl q2010 (la_nil)) (by decide +kernel) dX5_order_47 ?_
  refine s_aload_n rfl G.b dX5_order_50 ?_
  refine s_getf G.b G.ow G.kn (G.hts _ q1938) (fun _ h => h) fa_108 dX5_order_51 ?_
  refine s_ifeq (tgt := 58) G.b dX5_order_54 (by decide) (tX5_order_58 EN G hF hC hxt) ?_
  exact s_return G dX5_order_57
set_option maxHeartbeats 4000000 in
theorem tX5_order_46 {x : CX} {E : Nat → Value} {Q : Rs → HS → Prop} (EN : EX x E) (G : Gd x cX5_order "ChantRulesModel" yX5_order 3 (Option.none : Option Jvm.ClassFile.FieldType) Q) (hF : x.1.2.2.2.frames = 7 ∧ x.1.2.2.2.locals = 177) (hC : x.2.2.2.2.2 = (fun _ => false)) (hxt : (∀ z ∈ x.2.2.1.2.1.exceptionTable.toList, False)) : Snd x 46 (bX5_order_46 E Q) := by
  unfold bX5_order_46
  refine s_iconst (by decide) G.b dX5_order_46 ?_
  exact (tX5_order_47 EN G hF hC hxt)
set_option maxHeartbeats 4000000 in
theorem tX5_order_0 {x : CX} {E : Nat → Value} {Q : Rs → HS → Prop} (EN : EX x E) (G : Gd x cX5_order "ChantRulesModel" yX5_order 3 (Option.none : Option Jvm.ClassFile.FieldType) Q) (hF : x.1.2.2.2.frames = 7 ∧ x.1.2.2.2.locals = 177) (hC : x.2.2.2.2.2 = (fun _ => false)) (hxt : (∀ z ∈ x.2.2.1.2.1.exceptionTable.toList, False)) : Snd x 0 (bX5_order_0 E Q) := by
  unfold bX5_order_0
  refine s_aload_n rfl G.b dX5_order_0 ?_
  refine s_callV G (mX5_next EN) q2255 q2257 (sel_cons (r := (RX5, TX5, 37)) (by decide) rfl qs66 (sel_nil)) q90 q2258 nmk_281 (rm_of hF (Nat.le_of_ble_eq_true rfl) (Nat.le_of_ble_eq_true rfl)) dX5_order_1 ?_ (sx_out G (fun z hz => (hxt z hz).elim))
  refine s_istore_n rfl G.b (by rw [G.nl]; decide) (fun _ _ => by rw [hC]) dX5_order_4 ?_
  refine s_aload_n rfl G.b dX5_order_5 ?_
  refine s_iload_n rfl G.b dX5_order_6 ?_
  refine s_bipush (by decide) G.b dX5_order_7 ?_
  refine s_icmpeq (tgt := 46) G.b dX5_order_9 (by decide) (tX5_order_46 EN G hF hC hxt) ?_
  refine s_iload_n rfl G.b dX5_order_12 ?_
  refine s_bipush (by decide) G.b dX5_order_13 ?_
  refine s_icmpeq (tgt := 46) G.b dX5_order_15 (by decide) (tX5_order_46 EN G hF hC hxt) ?_
  refine s_iload_n rfl G.b dX5_order_18 ?_
  refine s_bipush (by decide) G.b dX5_order_19 ?_
  refine s_icmpeq (tgt := 46) G.b dX5_order_21 (by decide) (tX5_order_46 EN G hF hC hxt) ?_
  refine s_iload_n rfl G.b dX5_order_24 ?_
  refine s_bipush (by decide) G.b dX5_order_25 ?_
  refine s_icmpeq (tgt := 46) G.b dX5_order_27 (by decide) (tX5_order_46 EN G hF hC hxt) ?_
  refine s_iload_n rfl G.b dX5_order_30 ?_
  refine s_bipush (by decide) G.b dX5_order_31 ?_
  refine s_icmpeq (tgt := 46) G.b dX5_order_33 (by decide) (tX5_order_46 EN G hF hC hxt) ?_
  refine s_iload_n rfl G.b dX5_order_36 ?_
  refine s_bipush (by decide) G.b dX5_order_37 ?_
  refine s_icmpeq (tgt := 46) G.b dX5_order_39 (by decide) (tX5_order_46 EN G hF hC hxt) ?_
  refine s_iconst (by decide) G.b dX5_order_42 ?_
  exact s_goto (tgt := 47) G.b dX5_order_43 (by decide) (tX5_order_47 EN G hF hC hxt)
set_option maxHeartbeats 4000000 in
theorem mX5_order {l : Launch} {D : DE} {s0 : State} {E : Nat → Value} (EN : EV l D s0 E) : rMet l D s0 yX5_order (ws_ yX5_order cX5_order 3 (Option.none : Option Jvm.ClassFile.FieldType)) 7 177 (wX5_order E) := by
  refine body_met (fun _ => false) EN.kn (fun w h => h) (by decide +kernel) rfl (fun av h Q hw => ?_) ?_
  · unfold wX5_order at hw
    split at hw
    · exact Nat.le_of_ble_eq_true rfl
    · exact hw.elim
  · intro p e s m below meth c av h Q hxt G hw
    unfold wX5_order at hw
    split at hw
    · exact tX5_order_0 EN G ⟨rfl, rfl⟩ rfl hxt _ _ _ hw
    · exact hw.elim
/-! ChantRulesModel.orders()I (X5_orders) -/
theorem nmk_292 : nm_ok yX5_order 0 := ⟨by decide +kernel, by decide +kernel, by decide +kernel⟩
def bX5_orders_64 (E : Nat → Value) (Q : Rs → HS → Prop) (X16 : Ct) : Ct :=
  o_iload 1 <|
  o_ireturn .int Q
def bX5_orders_58 (E : Nat → Value) (Q : Rs → HS → Prop) (X16 : Ct) : Ct :=
  o_iinc 1 1 <|
  X16
def bX5_orders_16 (E : Nat → Value) (Q : Rs → HS → Prop) (X16 : Ct) : Ct :=
  o_aload 0 <|
  o_getf [8] 35 <|
  o_ifne (bX5_orders_64 E Q X16) <|
  o_aload 0 <|
  o_getf [8] 0 <|
  o_ifne (bX5_orders_64 E Q X16) <|
  o_aload 0 <|
  o_getf [8] 33 <|
  o_aload 0 <|
  o_getf [8] 34 <|
  o_icmpge (bX5_orders_64 E Q X16) <|
  o_aload 0 <|
  o_push (.int 59) <|
  o_callV [8] 2 (wX5_mark E) (x_out Q) <|
  o_aload 0 <|
  o_getf [8] 35 <|
  o_ifne (bX5_orders_58 E Q X16) <|
  o_aload 0 <|
  o_callV [8] 1 (wX5_order E) (x_out Q) <|
  (bX5_orders_58 E Q X16)
def bX5_orders_0 (E : Nat → Value) (Q : Rs → HS → Prop) (X16 : Ct) : Ct :=
  o_aload 0 <|
  o_push (.int 0) <|
  o_putf [8] 33 .int <|
  o_aload 0 <|
  o_push (.int 0) <|
  o_putf [8] 35 .boolean <|
  o_push (.int 1) <|
  o_istore 1 <|
  o_aload 0 <|
  o_callV [8] 1 (wX5_order E) (x_out Q) <|
  X16
def wX5_orders (E : Nat → Value) : Wp := fun av h Q => match av with
  | [a0] => ∀ X16 : Ct, (∀ ls st h, bX5_orders_16 E Q X16 ls st h → X16 ls st h) → bX5_orders_0 E Q X16 [a0, jk] [] h
  | _ => False
set_option maxHeartbeats 4000000 in
theorem tX5_orders_64 {x : CX} {E : Nat → Value} {Q : Rs → HS → Prop} {X16 : Ct} (EN : EX x E) (G : Gd x cX5_orders "ChantRulesModel" yX5_orders 2 (Option.some Jvm.ClassFile.FieldType.int) Q) (hF : x.1.2.2.2.frames = 8 ∧ x.1.2.2.2.locals = 199) (hC : x.2.2.2.2.2 = (fun _ => false)) (hxt : (∀ z ∈ x.2.2.1.2.1.exceptionTable.toList, False)) (h16 : Snd x 16 X16) : Snd x 64 (bX5_orders_64 E Q X16) := by
  unfold bX5_orders_64
  refine s_iload_n rfl G.b dX5_orders_64 ?_
  exact s_ireturn G dX5_orders_65
set_option maxHeartbeats 4000000 in
theorem tX5_orders_58 {x : CX} {E : Nat → Value} {Q : Rs → HS → Prop} {X16 : Ct} (EN : EX x E) (G : Gd x cX5_orders "ChantRulesModel" yX5_orders 2 (Option.some Jvm.ClassFile.FieldType.int) Q) (hF : x.1.2.2.2.frames = 8 ∧ x.1.2.2.2.locals = 199) (hC : x.2.2.2.2.2 = (fun _ => false)) (hxt : (∀ z ∈ x.2.2.1.2.1.exceptionTable.toList, False)) (h16 : Snd x 16 X16) : Snd x 58 (bX5_orders_58 E Q X16) := by
  unfold bX5_orders_58
  refine s_iinc (by decide) G.b (by rw [G.nl]; decide) (fun _ _ => by rw [hC]) dX5_orders_58 ?_
  exact s_goto (tgt := 16) G.b dX5_orders_61 (by decide) h16
set_option maxHeartbeats 4000000 in
theorem tX5_orders_16 {x : CX} {E : Nat → Value} {Q : Rs → HS → Prop} {X16 : Ct} (EN : EX x E) (G : Gd x cX5_orders "ChantRulesModel" yX5_orders 2 (Option.some Jvm.ClassFile.FieldType.int) Q) (hF : x.1.2.2.2.frames = 8 ∧ x.1.2.2.2.locals = 199) (hC : x.2.2.2.2.2 = (fun _ => false)) (hxt : (∀ z ∈ x.2.2.1.2.1.exceptionTable.toList, False)) (h16 : Snd x 16 X16) : Snd x 16 (bX5_orders_16 E Q X16) := by
  unfold bX5_orders_16
  refine s_aload_n rfl G.b dX5_orders_16 ?_
  refine s_getf G.b G.ow G.kn (G.hts _ q1938) (fun _ h => h) fa_108 dX5_orders_17 ?_
  refine s_ifne (tgt := 64) G.b dX5_orders_20 (by decide) (tX5_orders_64 EN G hF hC hxt h16) ?_
  refine s_aload_n rfl G.b dX5_orders_23 ?_
  refine s_getf G.b G.ow G.kn (G.hts _ q1903) (fun _ h => h) fa_95 dX5_orders_24 ?_
  refine s_ifne (tgt := 64) G.b dX5_orders_27 (by decide) (tX5_orders_64 EN G hF hC hxt h16) ?_
  refine s_aload_n rfl G.b dX5_orders_30 ?_
  refine s_getf G.b G.ow G.kn (G.hts _ q1936) (fun _ h => h) fa_106 dX5_orders_31 ?_
  refine s_aload_n rfl G.b dX5_orders_34 ?_
  refine s_getf G.b G.ow G.kn (G.hts _ q1937) (fun _ h => h) fa_107 dX5_orders_35 ?_
  refine s_icmpge (tgt := 64) G.b dX5_orders_38 (by decide) (tX5_orders_64 EN G hF hC hxt h16) ?_
  refine s_aload_n rfl G.b dX5_orders_41 ?_
  refine s_bipush (by decide) G.b dX5_orders_42 ?_
  refine s_callV G (mX5_mark EN) q2271 q2273 (sel_cons (r := (RX5, TX5, 37)) (by decide) rfl qs70 (sel_nil)) q90 q2274 nmk_283 (rm_of hF (Nat.le_of_ble_eq_true rfl) (Nat.le_of_ble_eq_true rfl)) dX5_orders_44 ?_ (sx_out G (fun z hz => (hxt z hz).elim))
  refine s_aload_n rfl G.b dX5_orders_47 ?_
  refine s_getf G.b G.ow G.kn (G.hts _ q1938) (fun _ h => h) fa_108 dX5_orders_48 ?_
  refine s_ifne (tgt := 58) G.b dX5_orders_51 (by decide) (tX5_orders_58 EN G hF hC hxt h16) ?_
  refine s_aload_n rfl G.b dX5_orders_54 ?_
  refine s_callV G (mX5_order EN) q2251 q2253 (sel_cons (r := (RX5, TX5, 37)) (by decide) rfl qs65 (sel_nil)) q90 q2254 nmk_292 (rm_of hF (Nat.le_of_ble_eq_true rfl) (Nat.le_of_ble_eq_true rfl)) dX5_orders_55 ?_ (sx_out G (fun z hz => (hxt z hz).elim))
  exact (tX5_orders_58 EN G hF hC hxt h16)
set_option maxHeartbeats 4000000 in
theorem tX5_orders_0 {x : CX} {E : Nat → Value} {Q : Rs → HS → Prop} {X16 : Ct} (EN : EX x E) (G : Gd x cX5_orders "ChantRulesModel" yX5_orders 2 (Option.some Jvm.ClassFile.FieldType.int) Q) (hF : x.1.2.2.2.frames = 8 ∧ x.1.2.2.2.locals = 199) (hC : x.2.2.2.2.2 = (fun _ => false)) (hxt : (∀ z ∈ x.2.2.1.2.1.exceptionTable.toList, False)) (h16 : Snd x 16 X16) : Snd x 0 (bX5_orders_0 E Q X16) := by
  unfold bX5_orders_0
  refine s_aload_n rfl G.b dX5_orders_0 ?_
  refine s_iconst (by decide) G.b dX5_orders_1 ?_
  refine s_putf G.b G.ow G.kn (G.hts _ q1936) (fun _ h => h) fa_106 (la_cons (r := (RX5, TX5, 37)) G.hts (by decide) rfl q2006 (la_nil)) (by decide +kernel) dX5_orders_2 ?_
  refine s_aload_n rfl G.b dX5_orders_5 ?_
  refine s_iconst (by decide) G.b dX5_orders_6 ?_
  refine s_putf G.b G.ow G.kn (G.hts _ q1938) (fun _ h => h) fa_108 (la_cons (r := (RX5, TX5, 37)) G.hts (by decide) rfl q2010 (la_nil)) (by decide +kernel) dX5_orders_7 ?_
  refine s_iconst (by decide) G.b dX5_orders_10 ?_
  refine s_istore_n rfl G.b (by rw [G.nl]; decide) (fun _ _ => by rw [hC]) dX5_orders_11 ?_
  refine s_aload_n rfl G.b dX5_orders_12 ?_
  refine s_callV G (mX5_order EN) q2251 q2253 (sel_cons (r := (RX5, TX5, 37)) (by decide) rfl qs65 (sel_nil)) q90 q2254 nmk_292 (rm_of hF (Nat.le_of_ble_eq_true rfl) (Nat.le_of_ble_eq_true rfl)) dX5_orders_13 ?_ (sx_out G (fun z hz => (hxt z hz).elim))
  exact h16
set_option maxHeartbeats 4000000 in
theorem mX5_orders {l : Launch} {D : DE} {s0 : State} {E : Nat → Value} (EN : EV l D s0 E) : rMet l D s0 yX5_orders (ws_ yX5_orders cX5_orders 2 (Option.some Jvm.ClassFile.FieldType.int)) 8 199 (wX5_orders E) := by
  refine body_met (fun _ => false) EN.kn (fun w h => h) (by decide +kernel) rfl (fun av h Q hw => ?_) ?_
  · unfold wX5_orders at hw
    split at hw
    · exact Nat.le_of_ble_eq_true rfl
    · exact hw.elim
  · intro p e s m below meth c av h Q hxt G hw
    unfold wX5_orders at hw
    split at hw
    · exact tX5_orders_0 EN G ⟨rfl, rfl⟩ rfl hxt (fun _ _ _ h => h) _ _ _ (hw (AW _ 16) (tX5_orders_16 EN G ⟨rfl, rfl⟩ rfl hxt (fun _ _ _ h => h)))
    · exact hw.elim
/-! ChantRulesModel.run()I (X5_run) -/
theorem nmk_293 : nm_ok yX5_orders 0 := ⟨by decide +kernel, by decide +kernel, by decide +kernel⟩
def bX5_run_83 (E : Nat → Value) (Q : Rs → HS → Prop) : Ct :=
  o_istore 2 <|
  o_aload 0 <|
  o_getf [8] 3 <|
  o_istore 3 <|
  o_aload 0 <|
  o_aload 0 <|
  o_push (.int 5) <|
  o_iload 1 <|
  o_push (.int 1) <|
  o_isub <|
  o_callV [8] 3 (wX5_refuses E) (x_out Q) <|
  o_callV [8] 2 (wX5_ends E) (x_out Q) <|
  o_istore 4 <|
  o_aload 0 <|
  o_iload 2 <|
  o_putf [8] 4 .int <|
  o_aload 0 <|
  o_iload 3 <|
  o_putf [8] 5 .int <|
  o_iload 4 <|
  o_ireturn .int Q
def bX5_run_82 (E : Nat → Value) (Q : Rs → HS → Prop) : Ct :=
  o_push (.int 0) <|
  (bX5_run_83 E Q)
def bX5_run_66 (E : Nat → Value) (Q : Rs → HS → Prop) : Ct :=
  o_aload 0 <|
  o_getf [8] 0 <|
  o_push (.int (-14)) <|
  o_icmpne (bX5_run_82 E Q) <|
  o_aload 0 <|
  o_getf [8] 2 <|
  (bX5_run_83 E Q)
def bX5_run_43 (E : Nat → Value) (Q : Rs → HS → Prop) : Ct :=
  o_aload 0 <|
  o_push (.int 1) <|
  o_putf [8] 36 .boolean <|
  o_aload 0 <|
  o_callV [8] 1 (wX5_orders E) (x_out Q) <|
  o_istore 1 <|
  o_aload 0 <|
  o_getf [8] 0 <|
  o_ifne (bX5_run_66 E Q) <|
  o_aload 0 <|
  o_iload 1 <|
  o_callV [8] 2 (wX5_ends E) (x_out Q) <|
  o_ireturn .int Q
def bX5_run_0 (E : Nat → Value) (Q : Rs → HS → Prop) : Ct :=
  o_aload 0 <|
  o_callV [8] 1 (wX5_begins E) (x_out Q) <|
  o_aload 0 <|
  o_aload 0 <|
  o_getf [8] 26 <|
  o_putf [8] 34 .int <|
  o_aload 0 <|
  o_push (.int 0) <|
  o_putf [8] 26 .int <|
  o_aload 0 <|
  o_push (.int 0) <|
  o_putf [8] 36 .boolean <|
  o_aload 0 <|
  o_callV [8] 1 (wX5_orders E) (x_out Q) <|
  o_istore 1 <|
  o_aload 0 <|
  o_getf [8] 35 <|
  o_ifeq (bX5_run_43 E Q) <|
  o_push (.int (-1000)) <|
  o_aload 0 <|
  o_getf [8] 33 <|
  o_isub <|
  o_ireturn .int Q
def wX5_run (E : Nat → Value) : Wp := fun av h Q => match av with
  | [a0] => bX5_run_0 E Q [a0, jk, jk, jk, jk] [] h
  | _ => False
set_option maxHeartbeats 4000000 in
theorem tX5_run_83 {x : CX} {E : Nat → Value} {Q : Rs → HS → Prop} (EN : EX x E) (G : Gd x cX5_run "ChantRulesModel" yX5_run 5 (Option.some Jvm.ClassFile.FieldType.int) Q) (hF : x.1.2.2.2.frames = 9 ∧ x.1.2.2.2.locals = 220) (hC : x.2.2.2.2.2 = (fun _ => false)) (hxt : (∀ z ∈ x.2.2.1.2.1.exceptionTable.toList, False)) : Snd x 83 (bX5_run_83 E Q) := by
  unfold bX5_run_83
  refine s_istore_n rfl G.b (by rw [G.nl]; decide) (fun _ _ => by rw [hC]) dX5_run_83 ?_
  refine s_aload_n rfl G.b dX5_run_84 ?_
  refine s_getf G.b G.ow G.kn (G.hts _ q1906) (fun _ h => h) fa_97 dX5_run_85 ?_
  refine s_istore_n rfl G.b (by rw [G.nl]; decide) (fun _ _ => by rw [hC]) dX5_run_88 ?_
  refine s_aload_n rfl G.b dX5_run_89 ?_
  refine s_aload_n rfl G.b dX5_run_90 ?_
  refine s_iconst (by decide) G.b dX5_run_91 ?_
  refine s_iload_n rfl G.b dX5_run_92 ?_
  refine s_iconst (by decide) G.b dX5_run_93 ?_
  refine s_isub G.b dX5_run_94 ?_
  refine s_callV G (mX5_refuses EN) q2040 q2042 (sel_cons (r := (RX5, TX5, 37)) (by decide) rfl qs35 (sel_nil)) q90 q2043 nmk_255 (rm_of hF (Nat.le_of_ble_eq_true rfl) (Nat.le_of_ble_eq_true rfl)) dX5_run_95 ?_ (sx_out G (fun z hz => (hxt z hz).elim))
  refine s_callV G (mX5_ends EN) q2047 q2049 (sel_cons (r := (RX5, TX5, 37)) (by decide) rfl qs36 (sel_nil)) q90 q2050 nmk_260 (rm_of hF (Nat.le_of_ble_eq_true rfl) (Nat.le_of_ble_eq_true rfl)) dX5_run_98 ?_ (sx_out G (fun z hz => (hxt z hz).elim))
  refine s_istore G.b (by rw [G.nl]; decide) (fun _ _ => by rw [hC]) dX5_run_101 ?_
  refine s_aload_n rfl G.b dX5_run_103 ?_
  refine s_iload_n rfl G.b dX5_run_104 ?_
  refine s_putf G.b G.ow G.kn (G.hts _ q1907) (fun _ h => h) fa_98 (la_cons (r := (RX5, TX5, 37)) G.hts (by decide) rfl q1948 (la_nil)) (by decide +kernel) dX5_run_105 ?_
  refine s_aload_n rfl G.b dX5_run_108 ?_
  refine s_iload_n rfl G.b dX5_run_109 ?_
  refine s_putf G.b G.ow G.kn (G.hts _ q1908) (fun _ h => h) fa_104 (la_cons (r := (RX5, TX5, 37)) G.hts (by decide) rfl q1950 (la_nil)) (by decide +kernel) dX5_run_110 ?_
  refine s_iload G.b dX5_run_113 ?_
  exact s_ireturn G dX5_run_115
set_option maxHeartbeats 4000000 in
theorem tX5_run_82 {x : CX} {E : Nat → Value} {Q : Rs → HS → Prop} (EN : EX x E) (G : Gd x cX5_run "ChantRulesModel" yX5_run 5 (Option.some Jvm.ClassFile.FieldType.int) Q) (hF : x.1.2.2.2.frames = 9 ∧ x.1.2.2.2.locals = 220) (hC : x.2.2.2.2.2 = (fun _ => false)) (hxt : (∀ z ∈ x.2.2.1.2.1.exceptionTable.toList, False)) : Snd x 82 (bX5_run_82 E Q) := by
  unfold bX5_run_82
  refine s_iconst (by decide) G.b dX5_run_82 ?_
  exact (tX5_run_83 EN G hF hC hxt)
set_option maxHeartbeats 4000000 in
theorem tX5_run_66 {x : CX} {E : Nat → Value} {Q : Rs → HS → Prop} (EN : EX x E) (G : Gd x cX5_run "ChantRulesModel" yX5_run 5 (Option.some Jvm.ClassFile.FieldType.int) Q) (hF : x.1.2.2.2.frames = 9 ∧ x.1.2.2.2.locals = 220) (hC : x.2.2.2.2.2 = (fun _ => false)) (hxt : (∀ z ∈ x.2.2.1.2.1.exceptionTable.toList, False)) : Snd x 66 (bX5_run_66 E Q) := by
  unfold bX5_run_66
  refine s_aload_n rfl G.b dX5_run_66 ?_
  refine s_getf G.b G.ow G.kn (G.hts _ q1903) (fun _ h => h) fa_95 dX5_run_67 ?_
  refine s_bipush (by decide) G.b dX5_run_70 ?_
  refine s_icmpne (tgt := 82) G.b dX5_run_72 (by decide) (tX5_run_82 EN G hF hC hxt) ?_
  refine s_aload_n rfl G.b dX5_run_75 ?_
  refine s_getf G.b G.ow G.kn (G.hts _ q1905) (fun _ h => h) fa_96 dX5_run_76 ?_
  exact s_goto (tgt := 83) G.b dX5_run_79 (by decide) (tX5_run_83 EN G hF hC hxt)
set_option maxHeartbeats 4000000 in
theorem tX5_run_43 {x : CX} {E : Nat → Value} {Q : Rs → HS → Prop} (EN : EX x E) (G : Gd x cX5_run "ChantRulesModel" yX5_run 5 (Option.some Jvm.ClassFile.FieldType.int) Q) (hF : x.1.2.2.2.frames = 9 ∧ x.1.2.2.2.locals = 220) (hC : x.2.2.2.2.2 = (fun _ => false)) (hxt : (∀ z ∈ x.2.2.1.2.1.exceptionTable.toList, False)) : Snd x 43 (bX5_run_43 E Q) := by
  unfold bX5_run_43
  refine s_aload_n rfl G.b dX5_run_43 ?_
  refine s_iconst (by decide) G.b dX5_run_44 ?_
  refine s_putf G.b G.ow G.kn (G.hts _ q1939) (fun _ h => h) fa_109 (la_cons (r := (RX5, TX5, 37)) G.hts (by decide) rfl q2012 (la_nil)) (by decide +kernel) dX5_run_45 ?_
  refine s_aload_n rfl G.b dX5_run_48 ?_
  refine s_callV G (mX5_orders EN) q2247 q2249 (sel_cons (r := (RX5, TX5, 37)) (by decide) rfl qs64 (sel_nil)) q90 q2250 nmk_293 (rm_of hF (Nat.le_of_ble_eq_true rfl) (Nat.le_of_ble_eq_true rfl)) dX5_run_49 ?_ (sx_out G (fun z hz => (hxt z hz).elim))
  refine s_istore_n rfl G.b (by rw [G.nl]; decide) (fun _ _ => by rw [hC]) dX5_run_52 ?_
  refine s_aload_n rfl G.b dX5_run_53 ?_
  refine s_getf G.b G.ow G.kn (G.hts _ q1903) (fun _ h => h) fa_95 dX5_run_54 ?_
  refine s_ifne (tgt := 66) G.b dX5_run_57 (by decide) (tX5_run_66 EN G hF hC hxt) ?_
  refine s_aload_n rfl G.b dX5_run_60 ?_
  refine s_iload_n rfl G.b dX5_run_61 ?_
  refine s_callV G (mX5_ends EN) q2047 q2049 (sel_cons (r := (RX5, TX5, 37)) (by decide) rfl qs36 (sel_nil)) q90 q2050 nmk_260 (rm_of hF (Nat.le_of_ble_eq_true rfl) (Nat.le_of_ble_eq_true rfl)) dX5_run_62 ?_ (sx_out G (fun z hz => (hxt z hz).elim))
  exact s_ireturn G dX5_run_65
set_option maxHeartbeats 4000000 in
theorem tX5_run_0 {x : CX} {E : Nat → Value} {Q : Rs → HS → Prop} (EN : EX x E) (G : Gd x cX5_run "ChantRulesModel" yX5_run 5 (Option.some Jvm.ClassFile.FieldType.int) Q) (hF : x.1.2.2.2.frames = 9 ∧ x.1.2.2.2.locals = 220) (hC : x.2.2.2.2.2 = (fun _ => false)) (hxt : (∀ z ∈ x.2.2.1.2.1.exceptionTable.toList, False)) : Snd x 0 (bX5_run_0 E Q) := by
  unfold bX5_run_0
  refine s_aload_n rfl G.b dX5_run_0 ?_
  refine s_callV G (mX5_begins EN) q2019 q2021 (sel_cons (r := (RX5, TX5, 37)) (by decide) rfl qs32 (sel_nil)) q90 q2022 nmk_258 (rm_of hF (Nat.le_of_ble_eq_true rfl) (Nat.le_of_ble_eq_true rfl)) dX5_run_1 ?_ (sx_out G (fun z hz => (hxt z hz).elim))
  refine s_aload_n rfl G.b dX5_run_4 ?_
  refine s_aload_n rfl G.b dX5_run_5 ?_
  refine s_getf G.b G.ow G.kn (G.hts _ q1929) (fun _ h => h) fa_94 dX5_run_6 ?_
  refine s_putf G.b G.ow G.kn (G.hts _ q1937) (fun _ h => h) fa_107 (la_cons (r := (RX5, TX5, 37)) G.hts (by decide) rfl q2008 (la_nil)) (by decide +kernel) dX5_run_9 ?_
  refine s_aload_n rfl G.b dX5_run_12 ?_
  refine s_iconst (by decide) G.b dX5_run_13 ?_
  refine s_putf G.b G.ow G.kn (G.hts _ q1929) (fun _ h => h) fa_94 (la_cons (r := (RX5, TX5, 37)) G.hts (by decide) rfl q1992 (la_nil)) (by decide +kernel) dX5_run_14 ?_
  refine s_aload_n rfl G.b dX5_run_17 ?_
  refine s_iconst (by decide) G.b dX5_run_18 ?_
  refine s_putf G.b G.ow G.kn (G.hts _ q1939) (fun _ h => h) fa_109 (la_cons (r := (RX5, TX5, 37)) G.hts (by decide) rfl q2012 (la_nil)) (by decide +kernel) dX5_run_19 ?_
  refine s_aload_n rfl G.b dX5_run_22 ?_
  refine s_callV G (mX5_orders EN) q2247 q2249 (sel_cons (r := (RX5, TX5, 37)) (by decide) rfl qs64 (sel_nil)) q90 q2250 nmk_293 (rm_of hF (Nat.le_of_ble_eq_true rfl) (Nat.le_of_ble_eq_true rfl)) dX5_run_23 ?_ (sx_out G (fun z hz => (hxt z hz).elim))
  refine s_istore_n rfl G.b (by rw [G.nl]; decide) (fun _ _ => by rw [hC]) dX5_run_26 ?_
  refine s_aload_n rfl G.b dX5_run_27 ?_
  refine s_getf G.b G.ow G.kn (G.hts _ q1938) (fun _ h => h) fa_108 dX5_run_28 ?_
  refine s_ifeq (tgt := 43) G.b dX5_run_31 (by decide) (tX5_run_43 EN G hF hC hxt) ?_
  refine s_sipush (by decide) G.b dX5_run_34 ?_
  refine s_aload_n rfl G.b dX5_run_37 ?_
  refine s_getf G.b G.ow G.kn (G.hts _ q1936) (fun _ h => h) fa_106 dX5_run_38 ?_
  refine s_isub G.b dX5_run_41 ?_
  exact s_ireturn G dX5_run_42
set_option maxHeartbeats 4000000 in
theorem mX5_run {l : Launch} {D : DE} {s0 : State} {E : Nat → Value} (EN : EV l D s0 E) : rMet l D s0 yX5_run (ws_ yX5_run cX5_run 5 (Option.some Jvm.ClassFile.FieldType.int)) 9 220 (wX5_run E) := by
  refine body_met (fun _ => false) EN.kn (fun w h => h) (by decide +kernel) rfl (fun av h Q hw => ?_) ?_
  · unfold wX5_run at hw
    split at hw
    · exact Nat.le_of_ble_eq_true rfl
    · exact hw.elim
  · intro p e s m below meth c av h Q hxt G hw
    unfold wX5_run at hw
    split at hw
    · exact tX5_run_0 EN G ⟨rfl, rfl⟩ rfl hxt _ _ _ hw
    · exact hw.elim
/-! ChantRulesModel.save()I (X5_save) -/
def bX5_save_0 (E : Nat → Value) (Q : Rs → HS → Prop) : Ct :=
  o_aload 0 <|
  o_getf [8] 9 <|
  o_aload 0 <|
  o_getf [8] 7 <|
  o_call 2 (wX5_lays E) (x_out Q) <|
  o_aload 0 <|
  o_push (.int 1) <|
  o_putf [8] 6 .boolean <|
  o_aload 0 <|
  o_getf [8] 7 <|
  o_push (.int 2) <|
  o_ald [100] <|
  o_aload 0 <|
  o_getf [8] 7 <|
  o_push (.int 3) <|
  o_ald [100] <|
  o_iadd <|
  o_ireturn .int Q
def wX5_save (E : Nat → Value) : Wp := fun av h Q => match av with
  | [a0] => bX5_save_0 E Q [a0] [] h
  | _ => False
set_option maxHeartbeats 4000000 in
theorem tX5_save_0 {x : CX} {E : Nat → Value} {Q : Rs → HS → Prop} (EN : EX x E) (G : Gd x cX5_save "ChantRulesModel" yX5_save 1 (Option.some Jvm.ClassFile.FieldType.int) Q) (hF : x.1.2.2.2.frames = 3 ∧ x.1.2.2.2.locals = 86) (hC : x.2.2.2.2.2 = (fun _ => false)) (hxt : (∀ z ∈ x.2.2.1.2.1.exceptionTable.toList, False)) : Snd x 0 (bX5_save_0 E Q) := by
  unfold bX5_save_0
  refine s_aload_n rfl G.b dX5_save_0 ?_
  refine s_getf G.b G.ow G.kn (G.hts _ q1912) (fun _ h => h) fa_85 dX5_save_1 ?_
  refine s_aload_n rfl G.b dX5_save_4 ?_
  refine s_getf G.b G.ow G.kn (G.hts _ q1910) (fun _ h => h) fa_73 dX5_save_5 ?_
  refine s_callS G (mX5_lays EN) q2023 q2024 q90 q2025 nmk_252 (rm_of hF (Nat.le_of_ble_eq_true rfl) (Nat.le_of_ble_eq_true rfl)) dX5_save_8 ?_ (sx_out G (fun z hz => (hxt z hz).elim))
  refine s_aload_n rfl G.b dX5_save_11 ?_
  refine s_iconst (by decide) G.b dX5_save_12 ?_
  refine s_putf G.b G.ow G.kn (G.hts _ q1909) (fun _ h => h) fa_105 (la_cons (r := (RX5, TX5, 37)) G.hts (by decide) rfl q1952 (la_nil)) (by decide +kernel) dX5_save_13 ?_
  refine s_aload_n rfl G.b dX5_save_16 ?_
  refine s_getf G.b G.ow G.kn (G.hts _ q1910) (fun _ h => h) fa_73 dX5_save_17 ?_
  refine s_iconst (by decide) G.b dX5_save_20 ?_
  refine s_iald G.b G.kn dX5_save_21 ?_
  refine s_aload_n rfl G.b dX5_save_22 ?_
  refine s_getf G.b G.ow G.kn (G.hts _ q1910) (fun _ h => h) fa_73 dX5_save_23 ?_
  refine s_iconst (by decide) G.b dX5_save_26 ?_
  refine s_iald G.b G.kn dX5_save_27 ?_
  refine s_iadd G.b dX5_save_28 ?_
  exact s_ireturn G dX5_save_29
set_option maxHeartbeats 4000000 in
theorem mX5_save {l : Launch} {D : DE} {s0 : State} {E : Nat → Value} (EN : EV l D s0 E) : rMet l D s0 yX5_save (ws_ yX5_save cX5_save 1 (Option.some Jvm.ClassFile.FieldType.int)) 3 86 (wX5_save E) := by
  refine body_met (fun _ => false) EN.kn (fun w h => h) (by decide +kernel) rfl (fun av h Q hw => ?_) ?_
  · unfold wX5_save at hw
    split at hw
    · exact Nat.le_of_ble_eq_true rfl
    · exact hw.elim
  · intro p e s m below meth c av h Q hxt G hw
    unfold wX5_save at hw
    split at hw
    · exact tX5_save_0 EN G ⟨rfl, rfl⟩ rfl hxt _ _ _ hw
    · exact hw.elim
/-! ChantRulesModel.shortest(I)I (X5_shortest) -/
def bX5_shortest_0 (E : Nat → Value) (Q : Rs → HS → Prop) : Ct :=
  o_aload 0 <|
  o_iload 1 <|
  o_push (.int 0) <|
  o_callV [8] 3 (wX5_leastOf E) (x_out Q) <|
  o_ireturn .int Q
def wX5_shortest (E : Nat → Value) : Wp := fun av h Q => match av with
  | [a0, a1] => bX5_shortest_0 E Q [a0, a1] [] h
  | _ => False
set_option maxHeartbeats 4000000 in
theorem tX5_shortest_0 {x : CX} {E : Nat → Value} {Q : Rs → HS → Prop} (EN : EX x E) (G : Gd x cX5_shortest "ChantRulesModel" yX5_shortest 2 (Option.some Jvm.ClassFile.FieldType.int) Q) (hF : x.1.2.2.2.frames = 5 ∧ x.1.2.2.2.locals = 134) (hC : x.2.2.2.2.2 = (fun _ => false)) (hxt : (∀ z ∈ x.2.2.1.2.1.exceptionTable.toList, False)) : Snd x 0 (bX5_shortest_0 E Q) := by
  unfold bX5_shortest_0
  refine s_aload_n rfl G.b dX5_shortest_0 ?_
  refine s_iload_n rfl G.b dX5_shortest_1 ?_
  refine s_iconst (by decide) G.b dX5_shortest_2 ?_
  refine s_callV G (mX5_leastOf EN) q2210 q2212 (sel_cons (r := (RX5, TX5, 37)) (by decide) rfl qs61 (sel_nil)) q90 q2213 nmk_277 (rm_of hF (Nat.le_of_ble_eq_true rfl) (Nat.le_of_ble_eq_true rfl)) dX5_shortest_3 ?_ (sx_out G (fun z hz => (hxt z hz).elim))
  exact s_ireturn G dX5_shortest_6
set_option maxHeartbeats 4000000 in
theorem mX5_shortest {l : Launch} {D : DE} {s0 : State} {E : Nat → Value} (EN : EV l D s0 E) : rMet l D s0 yX5_shortest (ws_ yX5_shortest cX5_shortest 2 (Option.some Jvm.ClassFile.FieldType.int)) 5 134 (wX5_shortest E) := by
  refine body_met (fun _ => false) EN.kn (fun w h => h) (by decide +kernel) rfl (fun av h Q hw => ?_) ?_
  · unfold wX5_shortest at hw
    split at hw
    · exact Nat.le_of_ble_eq_true rfl
    · exact hw.elim
  · intro p e s m below meth c av h Q hxt G hw
    unfold wX5_shortest at hw
    split at hw
    · exact tX5_shortest_0 EN G ⟨rfl, rfl⟩ rfl hxt _ _ _ hw
    · exact hw.elim
/-! ChantRulesModel.writes(I)V (X5_writes) -/
def bX5_writes_0 (E : Nat → Value) (Q : Rs → HS → Prop) : Ct :=
  o_aload 0 <|
  o_getf [8] 29 <|
  o_aload 0 <|
  o_getf [8] 30 <|
  o_iload 1 <|
  o_ast [(100, .int)] <|
  o_aload 0 <|
  o_dup <|
  o_getf [8] 30 <|
  o_push (.int 1) <|
  o_iadd <|
  o_putf [8] 30 .int <|
  o_return Q
def wX5_writes (E : Nat → Value) : Wp := fun av h Q => match av with
  | [a0, a1] => bX5_writes_0 E Q [a0, a1] [] h
  | _ => False
set_option maxHeartbeats 4000000 in
theorem tX5_writes_0 {x : CX} {E : Nat → Value} {Q : Rs → HS → Prop} (EN : EX x E) (G : Gd x cX5_writes "ChantRulesModel" yX5_writes 2 (Option.none : Option Jvm.ClassFile.FieldType) Q) (hF : x.1.2.2.2.frames = 2 ∧ x.1.2.2.2.locals = 64) (hC : x.2.2.2.2.2 = (fun _ => false)) (hxt : (∀ z ∈ x.2.2.1.2.1.exceptionTable.toList, False)) : Snd x 0 (bX5_writes_0 E Q) := by
  unfold bX5_writes_0
  refine s_aload_n rfl G.b dX5_writes_0 ?_
  refine s_getf G.b G.ow G.kn (G.hts _ q1932) (fun _ h => h) fa_81 dX5_writes_1 ?_
  refine s_aload_n rfl G.b dX5_writes_4 ?_
  refine s_getf G.b G.ow G.kn (G.hts _ q1933) (fun _ h => h) fa_103 dX5_writes_5 ?_
  refine s_iload_n rfl G.b dX5_writes_8 ?_
  refine s_iast G.b G.kn dX5_writes_9 ?_
  refine s_aload_n rfl G.b dX5_writes_10 ?_
  refine s_dup G.b dX5_writes_11 ?_
  refine s_getf G.b G.ow G.kn (G.hts _ q1933) (fun _ h => h) fa_103 dX5_writes_12 ?_
  refine s_iconst (by decide) G.b dX5_writes_15 ?_
  refine s_iadd G.b dX5_writes_16 ?_
  refine s_putf G.b G.ow G.kn (G.hts _ q1933) (fun _ h => h) fa_103 (la_cons (r := (RX5, TX5, 37)) G.hts (by decide) rfl q2000 (la_nil)) (by decide +kernel) dX5_writes_17 ?_
  exact s_return G dX5_writes_20
set_option maxHeartbeats 4000000 in
theorem mX5_writes {l : Launch} {D : DE} {s0 : State} {E : Nat → Value} (EN : EV l D s0 E) : rMet l D s0 yX5_writes (ws_ yX5_writes cX5_writes 2 (Option.none : Option Jvm.ClassFile.FieldType)) 2 64 (wX5_writes E) := by
  refine body_met (fun _ => false) EN.kn (fun w h => h) (by decide +kernel) rfl (fun av h Q hw => ?_) ?_
  · unfold wX5_writes at hw
    split at hw
    · exact Nat.le_of_ble_eq_true rfl
    · exact hw.elim
  · intro p e s m below meth c av h Q hxt G hw
    unfold wX5_writes at hw
    split at hw
    · exact tX5_writes_0 EN G ⟨rfl, rfl⟩ rfl hxt _ _ _ hw
    · exact hw.elim
/-! ChantRulesModel.songs()I (X5_songs) -/
theorem nmk_294 : nm_ok yX5_writes 1 := ⟨by decide +kernel, by decide +kernel, by decide +kernel⟩
def bX5_songs_48 (E : Nat → Value) (Q : Rs → HS → Prop) (X7 : Ct) : Ct :=
  o_aload 0 <|
  o_getf [8] 30 <|
  o_ireturn .int Q
def bX5_songs_7 (E : Nat → Value) (Q : Rs → HS → Prop) (X7 : Ct) : Ct :=
  o_iload 1 <|
  o_aload 0 <|
  o_getf [8] 23 <|
  o_aload 0 <|
  o_getf [8] 28 <|
  o_ald [100] <|
  o_icmpge (bX5_songs_48 E Q X7) <|
  o_aload 0 <|
  o_push (.int 97) <|
  o_aload 0 <|
  o_getf [8] 25 <|
  o_push (.int 230) <|
  o_aload 0 <|
  o_getf [8] 28 <|
  o_imul <|
  o_iload 1 <|
  o_iadd <|
  o_ald [100] <|
  o_iadd <|
  o_callV [8] 2 (wX5_writes E) (x_out Q) <|
  o_iinc 1 1 <|
  X7
def bX5_songs_0 (E : Nat → Value) (Q : Rs → HS → Prop) (X7 : Ct) : Ct :=
  o_aload 0 <|
  o_push (.int 0) <|
  o_putf [8] 30 .int <|
  o_push (.int 0) <|
  o_istore 1 <|
  X7
def wX5_songs (E : Nat → Value) : Wp := fun av h Q => match av with
  | [a0] => ∀ X7 : Ct, (∀ ls st h, bX5_songs_7 E Q X7 ls st h → X7 ls st h) → bX5_songs_0 E Q X7 [a0, jk] [] h
  | _ => False
set_option maxHeartbeats 4000000 in
theorem tX5_songs_48 {x : CX} {E : Nat → Value} {Q : Rs → HS → Prop} {X7 : Ct} (EN : EX x E) (G : Gd x cX5_songs "ChantRulesModel" yX5_songs 2 (Option.some Jvm.ClassFile.FieldType.int) Q) (hF : x.1.2.2.2.frames = 3 ∧ x.1.2.2.2.locals = 85) (hC : x.2.2.2.2.2 = (fun _ => false)) (hxt : (∀ z ∈ x.2.2.1.2.1.exceptionTable.toList, False)) (h7 : Snd x 7 X7) : Snd x 48 (bX5_songs_48 E Q X7) := by
  unfold bX5_songs_48
  refine s_aload_n rfl G.b dX5_songs_48 ?_
  refine s_getf G.b G.ow G.kn (G.hts _ q1933) (fun _ h => h) fa_103 dX5_songs_49 ?_
  exact s_ireturn G dX5_songs_52
set_option maxHeartbeats 4000000 in
theorem tX5_songs_7 {x : CX} {E : Nat → Value} {Q : Rs → HS → Prop} {X7 : Ct} (EN : EX x E) (G : Gd x cX5_songs "ChantRulesModel" yX5_songs 2 (Option.some Jvm.ClassFile.FieldType.int) Q) (hF : x.1.2.2.2.frames = 3 ∧ x.1.2.2.2.locals = 85) (hC : x.2.2.2.2.2 = (fun _ => false)) (hxt : (∀ z ∈ x.2.2.1.2.1.exceptionTable.toList, False)) (h7 : Snd x 7 X7) : Snd x 7 (bX5_songs_7 E Q X7) := by
  unfold bX5_songs_7
  refine s_iload_n rfl G.b dX5_songs_7 ?_
  refine s_aload_n rfl G.b dX5_songs_8 ?_
  refine s_getf G.b G.ow G.kn (G.hts _ q1926) (fun _ h => h) fa_78 dX5_songs_9 ?_
  refine s_aload_n rfl G.b dX5_songs_12 ?_
  refine s_getf G.b G.ow G.kn (G.hts _ q1931) (fun _ h => h) fa_101 dX5_songs_13 ?_
  refine s_iald G.b G.kn dX5_songs_16 ?_
  refine s_icmpge (tgt := 48) G.b dX5_songs_17 (by decide) (tX5_songs_48 EN G hF hC hxt h7) ?_
  refine s_aload_n rfl G.b dX5_songs_20 ?_
  refine s_bipush (by decide) G.b dX5_songs_21 ?_
  refine s_aload_n rfl G.b dX5_songs_23 ?_
  refine s_getf G.b G.ow G.kn (G.hts _ q1928) (fun _ h => h) fa_80 dX5_songs_24 ?_
  refine s_sipush (by decide) G.b dX5_songs_27 ?_
  refine s_aload_n rfl G.b dX5_songs_30 ?_
  refine s_getf G.b G.ow G.kn (G.hts _ q1931) (fun _ h => h) fa_101 dX5_songs_31 ?_
  refine s_imul G.b dX5_songs_34 ?_
  refine s_iload_n rfl G.b dX5_songs_35 ?_
  refine s_iadd G.b dX5_songs_36 ?_
  refine s_iald G.b G.kn dX5_songs_37 ?_
  refine s_iadd G.b dX5_songs_38 ?_
  refine s_callV G (mX5_writes EN) q2174 q2176 (sel_cons (r := (RX5, TX5, 37)) (by decide) rfl qs58 (sel_nil)) q90 q2177 nmk_294 (rm_of hF (Nat.le_of_ble_eq_true rfl) (Nat.le_of_ble_eq_true rfl)) dX5_songs_39 ?_ (sx_out G (fun z hz => (hxt z hz).elim))
  refine s_iinc (by decide) G.b (by rw [G.nl]; decide) (fun _ _ => by rw [hC]) dX5_songs_42 ?_
  exact s_goto (tgt := 7) G.b dX5_songs_45 (by decide) h7
set_option maxHeartbeats 4000000 in
theorem tX5_songs_0 {x : CX} {E : Nat → Value} {Q : Rs → HS → Prop} {X7 : Ct} (EN : EX x E) (G : Gd x cX5_songs "ChantRulesModel" yX5_songs 2 (Option.some Jvm.ClassFile.FieldType.int) Q) (hF : x.1.2.2.2.frames = 3 ∧ x.1.2.2.2.locals = 85) (hC : x.2.2.2.2.2 = (fun _ => false)) (hxt : (∀ z ∈ x.2.2.1.2.1.exceptionTable.toList, False)) (h7 : Snd x 7 X7) : Snd x 0 (bX5_songs_0 E Q X7) := by
  unfold bX5_songs_0
  refine s_aload_n rfl G.b dX5_songs_0 ?_
  refine s_iconst (by decide) G.b dX5_songs_1 ?_
  refine s_putf G.b G.ow G.kn (G.hts _ q1933) (fun _ h => h) fa_103 (la_cons (r := (RX5, TX5, 37)) G.hts (by decide) rfl q2000 (la_nil)) (by decide +kernel) dX5_songs_2 ?_
  refine s_iconst (by decide) G.b dX5_songs_5 ?_
  refine s_istore_n rfl G.b (by rw [G.nl]; decide) (fun _ _ => by rw [hC]) dX5_songs_6 ?_
  exact h7
set_option maxHeartbeats 4000000 in
theorem mX5_songs {l : Launch} {D : DE} {s0 : State} {E : Nat → Value} (EN : EV l D s0 E) : rMet l D s0 yX5_songs (ws_ yX5_songs cX5_songs 2 (Option.some Jvm.ClassFile.FieldType.int)) 3 85 (wX5_songs E) := by
  refine body_met (fun _ => false) EN.kn (fun w h => h) (by decide +kernel) rfl (fun av h Q hw => ?_) ?_
  · unfold wX5_songs at hw
    split at hw
    · exact Nat.le_of_ble_eq_true rfl
    · exact hw.elim
  · intro p e s m below meth c av h Q hxt G hw
    unfold wX5_songs at hw
    split at hw
    · exact tX5_songs_0 EN G ⟨rfl, rfl⟩ rfl hxt (fun _ _ _ h => h) _ _ _ (hw (AW _ 7) (tX5_songs_7 EN G ⟨rfl, rfl⟩ rfl hxt (fun _ _ _ h => h)))
    · exact hw.elim
