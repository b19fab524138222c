set_option maxRecDepth 100000
/-! ChantRulesModel.nextPlace()I (X5_nextPlace) -/
def bX5_nextPlace_67 (E : Nat → Value) (Q : Rs → HS → Prop) (X4 : Ct) : Ct :=
  o_iload 1 <|
  o_ireturn .int Q
def bX5_nextPlace_61 (E : Nat → Value) (Q : Rs → HS → Prop) (X4 : Ct) : Ct :=
  o_iinc 2 1 <|
  X4
def bX5_nextPlace_59 (E : Nat → Value) (Q : Rs → HS → Prop) (X4 : Ct) : Ct :=
  o_iload 2 <|
  o_istore 1 <|
  (bX5_nextPlace_61 E Q X4)
def bX5_nextPlace_4 (E : Nat → Value) (Q : Rs → HS → Prop) (X4 : Ct) : Ct :=
  o_iload 2 <|
  o_push (.int 9) <|
  o_aload 0 <|
  o_getf [8] 18 <|
  o_imul <|
  o_icmpge (bX5_nextPlace_67 E Q X4) <|
  o_aload 0 <|
  o_getf [8] 24 <|
  o_iload 2 <|
  o_ald [100] <|
  o_ifne (bX5_nextPlace_61 E Q X4) <|
  o_aload 0 <|
  o_getf [8] 22 <|
  o_iload 2 <|
  o_ald [100] <|
  o_iflt (bX5_nextPlace_61 E Q X4) <|
  o_iload 1 <|
  o_iflt (bX5_nextPlace_59 E Q X4) <|
  o_aload 0 <|
  o_aload 0 <|
  o_getf [8] 22 <|
  o_iload 2 <|
  o_ald [100] <|
  o_iload 2 <|
  o_push (.int 4) <|
  o_aload 0 <|
  o_getf [8] 22 <|
  o_iload 1 <|
  o_ald [100] <|
  o_iload 1 <|
  o_callV [8] 6 (wX5_isLess E) (x_out Q) <|
  o_ifeq (bX5_nextPlace_61 E Q X4) <|
  (bX5_nextPlace_59 E Q X4)
def bX5_nextPlace_0 (E : Nat → Value) (Q : Rs → HS → Prop) (X4 : Ct) : Ct :=
  o_push (.int (-1)) <|
  o_istore 1 <|
  o_push (.int 0) <|
  o_istore 2 <|
  X4
def wX5_nextPlace (E : Nat → Value) : Wp := fun av h Q => match av with
  | [a0] => ∀ X4 : Ct, (∀ ls st h, bX5_nextPlace_4 E Q X4 ls st h → X4 ls st h) → bX5_nextPlace_0 E Q X4 [a0, jk, jk] [] h
  | _ => False
set_option maxHeartbeats 4000000 in
theorem tX5_nextPlace_67 {x : CX} {E : Nat → Value} {Q : Rs → HS → Prop} {X4 : Ct} (EN : EX x E) (G : Gd x cX5_nextPlace "ChantRulesModel" yX5_nextPlace 3 (Option.some Jvm.ClassFile.FieldType.int) Q) (hF : x.1.2.2.2.frames = 4 ∧ x.1.2.2.2.locals = 114) (hC : x.2.2.2.2.2 = (fun _ => false)) (hxt : (∀ z ∈ x.2.2.1.2.1.exceptionTable.toList, False)) (h4 : Snd x 4 X4) : Snd x 67 (bX5_nextPlace_67 E Q X4) := by
  unfold bX5_nextPlace_67
  refine s_iload_n rfl G.b dX5_nextPlace_67 ?_
  exact s_ireturn G dX5_nextPlace_68
set_option maxHeartbeats 4000000 in
theorem tX5_nextPlace_61 {x : CX} {E : Nat → Value} {Q : Rs → HS → Prop} {X4 : Ct} (EN : EX x E) (G : Gd x cX5_nextPlace "ChantRulesModel" yX5_nextPlace 3 (Option.some Jvm.ClassFile.FieldType.int) Q) (hF : x.1.2.2.2.frames = 4 ∧ x.1.2.2.2.locals = 114) (hC : x.2.2.2.2.2 = (fun _ => false)) (hxt : (∀ z ∈ x.2.2.1.2.1.exceptionTable.toList, False)) (h4 : Snd x 4 X4) : Snd x 61 (bX5_nextPlace_61 E Q X4) := by
  unfold bX5_nextPlace_61
  refine s_iinc (by decide) G.b (by rw [G.nl]; decide) (fun _ _ => by rw [hC]) dX5_nextPlace_61 ?_
  exact s_goto (tgt := 4) G.b dX5_nextPlace_64 (by decide) h4
set_option maxHeartbeats 4000000 in
theorem tX5_nextPlace_59 {x : CX} {E : Nat → Value} {Q : Rs → HS → Prop} {X4 : Ct} (EN : EX x E) (G : Gd x cX5_nextPlace "ChantRulesModel" yX5_nextPlace 3 (Option.some Jvm.ClassFile.FieldType.int) Q) (hF : x.1.2.2.2.frames = 4 ∧ x.1.2.2.2.locals = 114) (hC : x.2.2.2.2.2 = (fun _ => false)) (hxt : (∀ z ∈ x.2.2.1.2.1.exceptionTable.toList, False)) (h4 : Snd x 4 X4) : Snd x 59 (bX5_nextPlace_59 E Q X4) := by
  unfold bX5_nextPlace_59
  refine s_iload_n rfl G.b dX5_nextPlace_59 ?_
  refine s_istore_n rfl G.b (by rw [G.nl]; decide) (fun _ _ => by rw [hC]) dX5_nextPlace_60 ?_
  exact (tX5_nextPlace_61 EN G hF hC hxt h4)
set_option maxHeartbeats 4000000 in
theorem tX5_nextPlace_4 {x : CX} {E : Nat → Value} {Q : Rs → HS → Prop} {X4 : Ct} (EN : EX x E) (G : Gd x cX5_nextPlace "ChantRulesModel" yX5_nextPlace 3 (Option.some Jvm.ClassFile.FieldType.int) Q) (hF : x.1.2.2.2.frames = 4 ∧ x.1.2.2.2.locals = 114) (hC : x.2.2.2.2.2 = (fun _ => false)) (hxt : (∀ z ∈ x.2.2.1.2.1.exceptionTable.toList, False)) (h4 : Snd x 4 X4) : Snd x 4 (bX5_nextPlace_4 E Q X4) := by
  unfold bX5_nextPlace_4
  refine s_iload_n rfl G.b dX5_nextPlace_4 ?_
  refine s_bipush (by decide) G.b dX5_nextPlace_5 ?_
  refine s_aload_n rfl G.b dX5_nextPlace_7 ?_
  refine s_getf G.b G.ow G.kn (G.hts _ q1921) (fun _ h => h) fa_100 dX5_nextPlace_8 ?_
  refine s_imul G.b dX5_nextPlace_11 ?_
  refine s_icmpge (tgt := 67) G.b dX5_nextPlace_12 (by decide) (tX5_nextPlace_67 EN G hF hC hxt h4) ?_
  refine s_aload_n rfl G.b dX5_nextPlace_15 ?_
  refine s_getf G.b G.ow G.kn (G.hts _ q1927) (fun _ h => h) fa_79 dX5_nextPlace_16 ?_
  refine s_iload_n rfl G.b dX5_nextPlace_19 ?_
  refine s_iald G.b G.kn dX5_nextPlace_20 ?_
  refine s_ifne (tgt := 61) G.b dX5_nextPlace_21 (by decide) (tX5_nextPlace_61 EN G hF hC hxt h4) ?_
  refine s_aload_n rfl G.b dX5_nextPlace_24 ?_
  refine s_getf G.b G.ow G.kn (G.hts _ q1925) (fun _ h => h) fa_77 dX5_nextPlace_25 ?_
  refine s_iload_n rfl G.b dX5_nextPlace_28 ?_
  refine s_iald G.b G.kn dX5_nextPlace_29 ?_
  refine s_iflt (tgt := 61) G.b dX5_nextPlace_30 (by decide) (tX5_nextPlace_61 EN G hF hC hxt h4) ?_
  refine s_iload_n rfl G.b dX5_nextPlace_33 ?_
  refine s_iflt (tgt := 59) G.b dX5_nextPlace_34 (by decide) (tX5_nextPlace_59 EN G hF hC hxt h4) ?_
  refine s_aload_n rfl G.b dX5_nextPlace_37 ?_
  refine s_aload_n rfl G.b dX5_nextPlace_38 ?_
  refine s_getf G.b G.ow G.kn (G.hts _ q1925) (fun _ h => h) fa_77 dX5_nextPlace_39 ?_
  refine s_iload_n rfl G.b dX5_nextPlace_42 ?_
  refine s_iald G.b G.kn dX5_nextPlace_43 ?_
  refine s_iload_n rfl G.b dX5_nextPlace_44 ?_
  refine s_iconst (by decide) G.b dX5_nextPlace_45 ?_
  refine s_aload_n rfl G.b dX5_nextPlace_46 ?_
  refine s_getf G.b G.ow G.kn (G.hts _ q1925) (fun _ h => h) fa_77 dX5_nextPlace_47 ?_
  refine s_iload_n rfl G.b dX5_nextPlace_50 ?_
  refine s_iald G.b G.kn dX5_nextPlace_51 ?_
  refine s_iload_n rfl G.b dX5_nextPlace_52 ?_
  refine s_callV G (mX5_isLess EN) q2154 q2156 (sel_cons (r := (RX5, TX5, 37)) (by decide) rfl qs54 (sel_nil)) q90 q2157 nmk_266 (rm_of hF (Nat.le_of_ble_eq_true rfl) (Nat.le_of_ble_eq_true rfl)) dX5_nextPlace_53 ?_ (sx_out G (fun z hz => (hxt z hz).elim))
  refine s_ifeq (tgt := 61) G.b dX5_nextPlace_56 (by decide) (tX5_nextPlace_61 EN G hF hC hxt h4) ?_
  exact (tX5_nextPlace_59 EN G hF hC hxt h4)
set_option maxHeartbeats 4000000 in
theorem tX5_nextPlace_0 {x : CX} {E : Nat → Value} {Q : Rs → HS → Prop} {X4 : Ct} (EN : EX x E) (G : Gd x cX5_nextPlace "ChantRulesModel" yX5_nextPlace 3 (Option.some Jvm.ClassFile.FieldType.int) Q) (hF : x.1.2.2.2.frames = 4 ∧ x.1.2.2.2.locals = 114) (hC : x.2.2.2.2.2 = (fun _ => false)) (hxt : (∀ z ∈ x.2.2.1.2.1.exceptionTable.toList, False)) (h4 : Snd x 4 X4) : Snd x 0 (bX5_nextPlace_0 E Q X4) := by
  unfold bX5_nextPlace_0
  refine s_iconst (by decide) G.b dX5_nextPlace_0 ?_
  refine s_istore_n rfl G.b (by rw [G.nl]; decide) (fun _ _ => by rw [hC]) dX5_nextPlace_1 ?_
  refine s_iconst (by decide) G.b dX5_nextPlace_2 ?_
  refine s_istore_n rfl G.b (by rw [G.nl]; decide) (fun _ _ => by rw [hC]) dX5_nextPlace_3 ?_
  exact h4
set_option maxHeartbeats 4000000 in
theorem mX5_nextPlace {l : Launch} {D : DE} {s0 : State} {E : Nat → Value} (EN : EV l D s0 E) : rMet l D s0 yX5_nextPlace (ws_ yX5_nextPlace cX5_nextPlace 3 (Option.some Jvm.ClassFile.FieldType.int)) 4 114 (wX5_nextPlace E) := by
  refine body_met (fun _ => false) EN.kn (fun w h => h) (by decide +kernel) rfl (fun av h Q hw => ?_) ?_
  · unfold wX5_nextPlace at hw
    split at hw
    · exact Nat.le_of_ble_eq_true rfl
    · exact hw.elim
  · intro p e s m below meth c av h Q hxt G hw
    unfold wX5_nextPlace at hw
    split at hw
    · exact tX5_nextPlace_0 EN G ⟨rfl, rfl⟩ rfl hxt (fun _ _ _ h => h) _ _ _ (hw (AW _ 4) (tX5_nextPlace_4 EN G ⟨rfl, rfl⟩ rfl hxt (fun _ _ _ h => h)))
    · exact hw.elim
/-! ChantRulesModel.reads()Z (X5_reads) -/
theorem fa_101 : fieldAt [8] 28 "ChantRulesModel" "best" "I" := fa_cons (r := (RX5, TX5, 37)) rfl (by decide) rfl rfl rfl (fa_nil)
theorem nmk_267 : nm_ok yX5_nextPlace 0 := ⟨by decide +kernel, by decide +kernel, by decide +kernel⟩
theorem nmk_268 : nm_ok yX5_goes 2 := ⟨by decide +kernel, by decide +kernel, by decide +kernel⟩
theorem fa_102 : fieldAt [8] 27 "ChantRulesModel" "bestWeight" "I" := fa_cons (r := (RX5, TX5, 37)) rfl (by decide) rfl rfl rfl (fa_nil)
def bX5_reads_214 (E : Nat → Value) (Q : Rs → HS → Prop) (X2 X53 X161 : Ct) : Ct :=
  o_ireturn .boolean Q
def bX5_reads_213 (E : Nat → Value) (Q : Rs → HS → Prop) (X2 X53 X161 : Ct) : Ct :=
  o_push (.int 0) <|
  (bX5_reads_214 E Q X2 X53 X161)
def bX5_reads_202 (E : Nat → Value) (Q : Rs → HS → Prop) (X2 X53 X161 : Ct) : Ct :=
  o_aload 0 <|
  o_getf [8] 28 <|
  o_iflt (bX5_reads_213 E Q X2 X53 X161) <|
  o_push (.int 1) <|
  (bX5_reads_214 E Q X2 X53 X161)
def bX5_reads_194 (E : Nat → Value) (Q : Rs → HS → Prop) (X2 X53 X161 : Ct) : Ct :=
  o_aload 0 <|
  o_callV [8] 1 (wX5_nextPlace E) (x_out Q) <|
  o_istore 1 <|
  X53
def bX5_reads_188 (E : Nat → Value) (Q : Rs → HS → Prop) (X2 X53 X161 : Ct) : Ct :=
  o_iinc 4 1 <|
  X161
def bX5_reads_161 (E : Nat → Value) (Q : Rs → HS → Prop) (X2 X53 X161 : Ct) : Ct :=
  o_iload 4 <|
  o_aload 0 <|
  o_getf [8] 17 <|
  o_icmpge (bX5_reads_194 E Q X2 X53 X161) <|
  o_aload 0 <|
  o_getf [8] 11 <|
  o_iload 4 <|
  o_ald [100] <|
  o_iload 2 <|
  o_icmpne (bX5_reads_188 E Q X2 X53 X161) <|
  o_aload 0 <|
  o_iload 1 <|
  o_iload 4 <|
  o_callV [8] 3 (wX5_goes E) (x_out Q) <|
  (bX5_reads_188 E Q X2 X53 X161)
def bX5_reads_158 (E : Nat → Value) (Q : Rs → HS → Prop) (X2 X53 X161 : Ct) : Ct :=
  o_push (.int 0) <|
  o_istore 4 <|
  X161
def bX5_reads_136 (E : Nat → Value) (Q : Rs → HS → Prop) (X2 X53 X161 : Ct) : Ct :=
  o_aload 0 <|
  o_aload 0 <|
  o_getf [8] 22 <|
  o_iload 1 <|
  o_ald [100] <|
  o_aload 0 <|
  o_getf [8] 16 <|
  o_iload 2 <|
  o_ald [100] <|
  o_iadd <|
  o_putf [8] 27 .int <|
  o_aload 0 <|
  o_iload 1 <|
  o_putf [8] 28 .int <|
  (bX5_reads_158 E Q X2 X53 X161)
def bX5_reads_94 (E : Nat → Value) (Q : Rs → HS → Prop) (X2 X53 X161 : Ct) : Ct :=
  o_istore 3 <|
  o_iload 3 <|
  o_ifeq (bX5_reads_158 E Q X2 X53 X161) <|
  o_aload 0 <|
  o_getf [8] 28 <|
  o_iflt (bX5_reads_136 E Q X2 X53 X161) <|
  o_aload 0 <|
  o_aload 0 <|
  o_getf [8] 22 <|
  o_iload 1 <|
  o_ald [100] <|
  o_aload 0 <|
  o_getf [8] 16 <|
  o_iload 2 <|
  o_ald [100] <|
  o_iadd <|
  o_iload 1 <|
  o_push (.int 4) <|
  o_aload 0 <|
  o_getf [8] 27 <|
  o_aload 0 <|
  o_getf [8] 28 <|
  o_callV [8] 6 (wX5_isLess E) (x_out Q) <|
  o_ifeq (bX5_reads_158 E Q X2 X53 X161) <|
  (bX5_reads_136 E Q X2 X53 X161)
def bX5_reads_93 (E : Nat → Value) (Q : Rs → HS → Prop) (X2 X53 X161 : Ct) : Ct :=
  o_push (.int 0) <|
  (bX5_reads_94 E Q X2 X53 X161)
def bX5_reads_53 (E : Nat → Value) (Q : Rs → HS → Prop) (X2 X53 X161 : Ct) : Ct :=
  o_iload 1 <|
  o_iflt (bX5_reads_202 E Q X2 X53 X161) <|
  o_aload 0 <|
  o_getf [8] 24 <|
  o_iload 1 <|
  o_push (.int 1) <|
  o_ast [(100, .int)] <|
  o_iload 1 <|
  o_push (.int 9) <|
  o_idiv <|
  o_istore 2 <|
  o_iload 1 <|
  o_push (.int 9) <|
  o_irem <|
  o_aload 0 <|
  o_getf [8] 26 <|
  o_icmpne (bX5_reads_93 E Q X2 X53 X161) <|
  o_aload 0 <|
  o_getf [8] 16 <|
  o_iload 2 <|
  o_ald [100] <|
  o_iflt (bX5_reads_93 E Q X2 X53 X161) <|
  o_push (.int 1) <|
  (bX5_reads_94 E Q X2 X53 X161)
def bX5_reads_36 (E : Nat → Value) (Q : Rs → HS → Prop) (X2 X53 X161 : Ct) : Ct :=
  o_aload 0 <|
  o_getf [8] 22 <|
  o_push (.int 0) <|
  o_push (.int 0) <|
  o_ast [(100, .int)] <|
  o_aload 0 <|
  o_push (.int (-1)) <|
  o_putf [8] 28 .int <|
  o_aload 0 <|
  o_callV [8] 1 (wX5_nextPlace E) (x_out Q) <|
  o_istore 1 <|
  X53
def bX5_reads_2 (E : Nat → Value) (Q : Rs → HS → Prop) (X2 X53 X161 : Ct) : Ct :=
  o_iload 1 <|
  o_push (.int 225) <|
  o_icmpge (bX5_reads_36 E Q X2 X53 X161) <|
  o_aload 0 <|
  o_getf [8] 22 <|
  o_iload 1 <|
  o_push (.int (-1)) <|
  o_ast [(100, .int)] <|
  o_aload 0 <|
  o_getf [8] 24 <|
  o_iload 1 <|
  o_push (.int 0) <|
  o_ast [(100, .int)] <|
  o_aload 0 <|
  o_getf [8] 23 <|
  o_iload 1 <|
  o_push (.int 0) <|
  o_ast [(100, .int)] <|
  o_iinc 1 1 <|
  X2
def bX5_reads_0 (E : Nat → Value) (Q : Rs → HS → Prop) (X2 X53 X161 : Ct) : Ct :=
  o_push (.int 0) <|
  o_istore 1 <|
  X2
def wX5_reads (E : Nat → Value) : Wp := fun av h Q => match av with
  | [a0] => ∀ X2 X53 X161 : Ct, (∀ ls st h, bX5_reads_2 E Q X2 X53 X161 ls st h → X2 ls st h) → (∀ ls st h, bX5_reads_53 E Q X2 X53 X161 ls st h → X53 ls st h) → (∀ ls st h, bX5_reads_161 E Q X2 X53 X161 ls st h → X161 ls st h) → bX5_reads_0 E Q X2 X53 X161 [a0, jk, jk, jk, jk] [] h
  | _ => False
set_option maxHeartbeats 4000000 in
theorem tX5_reads_214 {x : CX} {E : Nat → Value} {Q : Rs → HS → Prop} {X2 X53 X161 : Ct} (EN : EX x E) (G : Gd x cX5_reads "ChantRulesModel" yX5_reads 5 (Option.some Jvm.ClassFile.FieldType.boolean) Q) (hF : x.1.2.2.2.frames = 5 ∧ x.1.2.2.2.locals = 141) (hC : x.2.2.2.2.2 = (fun _ => false)) (hxt : (∀ z ∈ x.2.2.1.2.1.exceptionTable.toList, False)) (h2 : Snd x 2 X2) (h53 : Snd x 53 X53) (h161 : Snd x 161 X161) : Snd x 214 (bX5_reads_214 E Q X2 X53 X161) := by
  unfold bX5_reads_214
  exact s_ireturn G dX5_reads_214
set_option maxHeartbeats 4000000 in
theorem tX5_reads_213 {x : CX} {E : Nat → Value} {Q : Rs → HS → Prop} {X2 X53 X161 : Ct} (EN : EX x E) (G : Gd x cX5_reads "ChantRulesModel" yX5_reads 5 (Option.some Jvm.ClassFile.FieldType.boolean) Q) (hF : x.1.2.2.2.frames = 5 ∧ x.1.2.2.2.locals = 141) (hC : x.2.2.2.2.2 = (fun _ => false)) (hxt : (∀ z ∈ x.2.2.1.2.1.exceptionTable.toList, False)) (h2 : Snd x 2 X2) (h53 : Snd x 53 X53) (h161 : Snd x 161 X161) : Snd x 213 (bX5_reads_213 E Q X2 X53 X161) := by
  unfold bX5_reads_213
  refine s_iconst (by decide) G.b dX5_reads_213 ?_
  exact (tX5_reads_214 EN G hF hC hxt h2 h53 h161)
set_option maxHeartbeats 4000000 in
theorem tX5_reads_202 {x : CX} {E : Nat → Value} {Q : Rs → HS → Prop} {X2 X53 X161 : Ct} (EN : EX x E) (G : Gd x cX5_reads "ChantRulesModel" yX5_reads 5 (Option.some Jvm.ClassFile.FieldType.boolean) Q) (hF : x.1.2.2.2.frames = 5 ∧ x.1.2.2.2.locals = 141) (hC : x.2.2.2.2.2 = (fun _ => false)) (hxt : (∀ z ∈ x.2.2.1.2.1.exceptionTable.toList, False)) (h2 : Snd x 2 X2) (h53 : Snd x 53 X53) (h161 : Snd x 161 X161) : Snd x 202 (bX5_reads_202 E Q X2 X53 X161) := by
  unfold bX5_reads_202
  refine s_aload_n rfl G.b dX5_reads_202 ?_
  refine s_getf G.b G.ow G.kn (G.hts _ q1931) (fun _ h => h) fa_101 dX5_reads_203 ?_
  refine s_iflt (tgt := 213) G.b dX5_reads_206 (by decide) (tX5_reads_213 EN G hF hC hxt h2 h53 h161) ?_
  refine s_iconst (by decide) G.b dX5_reads_209 ?_
  exact s_goto (tgt := 214) G.b dX5_reads_210 (by decide) (tX5_reads_214 EN G hF hC hxt h2 h53 h161)
set_option maxHeartbeats 4000000 in
theorem tX5_reads_194 {x : CX} {E : Nat → Value} {Q : Rs → HS → Prop} {X2 X53 X161 : Ct} (EN : EX x E) (G : Gd x cX5_reads "ChantRulesModel" yX5_reads 5 (Option.some Jvm.ClassFile.FieldType.boolean) Q) (hF : x.1.2.2.2.frames = 5 ∧ x.1.2.2.2.locals = 141) (hC : x.2.2.2.2.2 = (fun _ => false)) (hxt : (∀ z ∈ x.2.2.1.2.1.exceptionTable.toList, False)) (h2 : Snd x 2 X2) (h53 : Snd x 53 X53) (h161 : Snd x 161 X161) : Snd x 194 (bX5_reads_194 E Q X2 X53 X161) := by
  unfold bX5_reads_194
  refine s_aload_n rfl G.b dX5_reads_194 ?_
  refine s_callV G (mX5_nextPlace EN) q2150 q2152 (sel_cons (r := (RX5, TX5, 37)) (by decide) rfl qs53 (sel_nil)) q90 q2153 nmk_267 (rm_of hF (Nat.le_of_ble_eq_true rfl) (Nat.le_of_ble_eq_true rfl)) dX5_reads_195 ?_ (sx_out G (fun z hz => (hxt z hz).elim))
  refine s_istore_n rfl G.b (by rw [G.nl]; decide) (fun _ _ => by rw [hC]) dX5_reads_198 ?_
  exact s_goto (tgt := 53) G.b dX5_reads_199 (by decide) h53
set_option maxHeartbeats 4000000 in
theorem tX5_reads_188 {x : CX} {E : Nat → Value} {Q : Rs → HS → Prop} {X2 X53 X161 : Ct} (EN : EX x E) (G : Gd x cX5_reads "ChantRulesModel" yX5_reads 5 (Option.some Jvm.ClassFile.FieldType.boolean) Q) (hF : x.1.2.2.2.frames = 5 ∧ x.1.2.2.2.locals = 141) (hC : x.2.2.2.2.2 = (fun _ => false)) (hxt : (∀ z ∈ x.2.2.1.2.1.exceptionTable.toList, False)) (h2 : Snd x 2 X2) (h53 : Snd x 53 X53) (h161 : Snd x 161 X161) : Snd x 188 (bX5_reads_188 E Q X2 X53 X161) := by
  unfold bX5_reads_188
  refine s_iinc (by decide) G.b (by rw [G.nl]; decide) (fun _ _ => by rw [hC]) dX5_reads_188 ?_
  exact s_goto (tgt := 161) G.b dX5_reads_191 (by decide) h161
set_option maxHeartbeats 4000000 in
theorem tX5_reads_161 {x : CX} {E : Nat → Value} {Q : Rs → HS → Prop} {X2 X53 X161 : Ct} (EN : EX x E) (G : Gd x cX5_reads "ChantRulesModel" yX5_reads 5 (Option.some Jvm.ClassFile.FieldType.boolean) Q) (hF : x.1.2.2.2.frames = 5 ∧ x.1.2.2.2.locals = 141) (hC : x.2.2.2.2.2 = (fun _ => false)) (hxt : (∀ z ∈ x.2.2.1.2.1.exceptionTable.toList, False)) (h2 : Snd x 2 X2) (h53 : Snd x 53 X53) (h161 : Snd x 161 X161) : Snd x 161 (bX5_reads_161 E Q X2 X53 X161) := by
  unfold bX5_reads_161
  refine s_iload G.b dX5_reads_161 ?_
  refine s_aload_n rfl G.b dX5_reads_163 ?_
  refine s_getf G.b G.ow G.kn (G.hts _ q1920) (fun _ h => h) fa_99 dX5_reads_164 ?_
  refine s_icmpge (tgt := 194) G.b dX5_reads_167 (by decide) (tX5_reads_194 EN G hF hC hxt h2 h53 h161) ?_
  refine s_aload_n rfl G.b dX5_reads_170 ?_
  refine s_getf G.b G.ow G.kn (G.hts _ q1914) (fun _ h => h) fa_87 dX5_reads_171 ?_
  refine s_iload G.b dX5_reads_174 ?_
  refine s_iald G.b G.kn dX5_reads_176 ?_
  refine s_iload_n rfl G.b dX5_reads_177 ?_
  refine s_icmpne (tgt := 188) G.b dX5_reads_178 (by decide) (tX5_reads_188 EN G hF hC hxt h2 h53 h161) ?_
  refine s_aload_n rfl G.b dX5_reads_181 ?_
  refine s_iload_n rfl G.b dX5_reads_182 ?_
  refine s_iload G.b dX5_reads_183 ?_
  refine s_callV G (mX5_goes EN) q2162 q2164 (sel_cons (r := (RX5, TX5, 37)) (by decide) rfl qs56 (sel_nil)) q90 q2165 nmk_268 (rm_of hF (Nat.le_of_ble_eq_true rfl) (Nat.le_of_ble_eq_true rfl)) dX5_reads_185 ?_ (sx_out G (fun z hz => (hxt z hz).elim))
  exact (tX5_reads_188 EN G hF hC hxt h2 h53 h161)
set_option maxHeartbeats 4000000 in
theorem tX5_reads_158 {x : CX} {E : Nat → Value} {Q : Rs → HS → Prop} {X2 X53 X161 : Ct} (EN : EX x E) (G : Gd x cX5_reads "ChantRulesModel" yX5_reads 5 (Option.some Jvm.ClassFile.FieldType.boolean) Q) (hF : x.1.2.2.2.frames = 5 ∧ x.1.2.2.2.locals = 141) (hC : x.2.2.2.2.2 = (fun _ => false)) (hxt : (∀ z ∈ x.2.2.1.2.1.exceptionTable.toList, False)) (h2 : Snd x 2 X2) (h53 : Snd x 53 X53) (h161 : Snd x 161 X161) : Snd x 158 (bX5_reads_158 E Q X2 X53 X161) := by
  unfold bX5_reads_158
  refine s_iconst (by decide) G.b dX5_reads_158 ?_
  refine s_istore G.b (by rw [G.nl]; decide) (fun _ _ => by rw [hC]) dX5_reads_159 ?_
  exact h161
set_option maxHeartbeats 4000000 in
theorem tX5_reads_136 {x : CX} {E : Nat → Value} {Q : Rs → HS → Prop} {X2 X53 X161 : Ct} (EN : EX x E) (G : Gd x cX5_reads "ChantRulesModel" yX5_reads 5 (Option.some Jvm.ClassFile.FieldType.boolean) Q) (hF : x.1.2.2.2.frames = 5 ∧ x.1.2.2.2.locals = 141) (hC : x.2.2.2.2.2 = (fun _ => false)) (hxt : (∀ z ∈ x.2.2.1.2.1.exceptionTable.toList, False)) (h2 : Snd x 2 X2) (h53 : Snd x 53 X53) (h161 : Snd x 161 X161) : Snd x 136 (bX5_reads_136 E Q X2 X53 X161) := by
  unfold bX5_reads_136
  refine s_aload_n rfl G.b dX5_reads_136 ?_
  refine s_aload_n rfl G.b dX5_reads_137 ?_
  refine s_getf G.b G.ow G.kn (G.hts _ q1925) (fun _ h => h) fa_77 dX5_reads_138 ?_
  refine s_iload_n rfl G.b dX5_reads_141 ?_
  refine s_iald G.b G.kn dX5_reads_142 ?_
  refine s_aload_n rfl G.b dX5_reads_143 ?_
  refine s_getf G.b G.ow G.kn (G.hts _ q1919) (fun _ h => h) fa_92 dX5_reads_144 ?_
  refine s_iload_n rfl G.b dX5_reads_147 ?_
  refine s_iald G.b G.kn dX5_reads_148 ?_
  refine s_iadd G.b dX5_reads_149 ?_
  refine s_putf G.b G.ow G.kn (G.hts _ q1930) (fun _ h => h) fa_102 (la_cons (r := (RX5, TX5, 37)) G.hts (by decide) rfl q1994 (la_nil)) (by decide +kernel) dX5_reads_150 ?_
  refine s_aload_n rfl G.b dX5_reads_153 ?_
  refine s_iload_n rfl G.b dX5_reads_154 ?_
  refine s_putf G.b G.ow G.kn (G.hts _ q1931) (fun _ h => h) fa_101 (la_cons (r := (RX5, TX5, 37)) G.hts (by decide) rfl q1996 (la_nil)) (by decide +kernel) dX5_reads_155 ?_
  exact (tX5_reads_158 EN G hF hC hxt h2 h53 h161)
set_option maxHeartbeats 4000000 in
theorem tX5_reads_94 {x : CX} {E : Nat → Value} {Q : Rs → HS → Prop} {X2 X53 X161 : Ct} (EN : EX x E) (G : Gd x cX5_reads "ChantRulesModel" yX5_reads 5 (Option.some Jvm.ClassFile.FieldType.boolean) Q) (hF : x.1.2.2.2.frames = 5 ∧ x.1.2.2.2.locals = 141) (hC : x.2.2.2.2.2 = (fun _ => false)) (hxt : (∀ z ∈ x.2.2.1.2.1.exceptionTable.toList, False)) (h2 : Snd x 2 X2) (h53 : Snd x 53 X53) (h161 : Snd x 161 X161) : Snd x 94 (bX5_reads_94 E Q X2 X53 X161) := by
  unfold bX5_reads_94
  refine s_istore_n rfl G.b (by rw [G.nl]; decide) (fun _ _ => by rw [hC]) dX5_reads_94 ?_
  refine s_iload_n rfl G.b dX5_reads_95 ?_
  refine s_ifeq (tgt := 158) G.b dX5_reads_96 (by decide) (tX5_reads_158 EN G hF hC hxt h2 h53 h161) ?_
  refine s_aload_n rfl G.b dX5_reads_99 ?_
  refine s_getf G.b G.ow G.kn (G.hts _ q1931) (fun _ h => h) fa_101 dX5_reads_100 ?_
  refine s_iflt (tgt := 136) G.b dX5_reads_103 (by decide) (tX5_reads_136 EN G hF hC hxt h2 h53 h161) ?_
  refine s_aload_n rfl G.b dX5_reads_106 ?_
  refine s_aload_n rfl G.b dX5_reads_107 ?_
  refine s_getf G.b G.ow G.kn (G.hts _ q1925) (fun _ h => h) fa_77 dX5_reads_108 ?_
  refine s_iload_n rfl G.b dX5_reads_111 ?_
  refine s_iald G.b G.kn dX5_reads_112 ?_
  refine s_aload_n rfl G.b dX5_reads_113 ?_
  refine s_getf G.b G.ow G.kn (G.hts _ q1919) (fun _ h => h) fa_92 dX5_reads_114 ?_
  refine s_iload_n rfl G.b dX5_reads_117 ?_
  refine s_iald G.b G.kn dX5_reads_118 ?_
  refine s_iadd G.b dX5_reads_119 ?_
  refine s_iload_n rfl G.b dX5_reads_120 ?_
  refine s_iconst (by decide) G.b dX5_reads_121 ?_
  refine s_aload_n rfl G.b dX5_reads_122 ?_
  refine s_getf G.b G.ow G.kn (G.hts _ q1930) (fun _ h => h) fa_102 dX5_reads_123 ?_
  refine s_aload_n rfl G.b dX5_reads_126 ?_
  refine s_getf G.b G.ow G.kn (G.hts _ q1931) (fun _ h => h) fa_101 dX5_reads_127 ?_
  refine s_callV G (mX5_isLess EN) q2154 q2156 (sel_cons (r := (RX5, TX5, 37)) (by decide) rfl qs54 (sel_nil)) q90 q2157 nmk_266 (rm_of hF (Nat.le_of_ble_eq_true rfl) (Nat.le_of_ble_eq_true rfl)) dX5_reads_130 ?_ (sx_out G (fun z hz => (hxt z hz).elim))
  refine s_ifeq (tgt := 158) G.b dX5_reads_133 (by decide) (tX5_reads_158 EN G hF hC hxt h2 h53 h161) ?_
  exact (tX5_reads_136 EN G hF hC hxt h2 h53 h161)
set_option maxHeartbeats 4000000 in
theorem tX5_reads_93 {x : CX} {E : Nat → Value} {Q : Rs → HS → Prop} {X2 X53 X161 : Ct} (EN : EX x E) (G : Gd x cX5_reads "ChantRulesModel" yX5_reads 5 (Option.some Jvm.ClassFile.FieldType.boolean) Q) (hF : x.1.2.2.2.frames = 5 ∧ x.1.2.2.2.locals = 141) (hC : x.2.2.2.2.2 = (fun _ => false)) (hxt : (∀ z ∈ x.2.2.1.2.1.exceptionTable.toList, False)) (h2 : Snd x 2 X2) (h53 : Snd x 53 X53) (h161 : Snd x 161 X161) : Snd x 93 (bX5_reads_93 E Q X2 X53 X161) := by
  unfold bX5_reads_93
  refine s_iconst (by decide) G.b dX5_reads_93 ?_
  exact (tX5_reads_94 EN G hF hC hxt h2 h53 h161)
set_option maxHeartbeats 4000000 in
theorem tX5_reads_53 {x : CX} {E : Nat → Value} {Q : Rs → HS → Prop} {X2 X53 X161 : Ct} (EN : EX x E) (G : Gd x cX5_reads "ChantRulesModel" yX5_reads 5 (Option.some Jvm.ClassFile.FieldType.boolean) Q) (hF : x.1.2.2.2.frames = 5 ∧ x.1.2.2.2.locals = 141) (hC : x.2.2.2.2.2 = (fun _ => false)) (hxt : (∀ z ∈ x.2.2.1.2.1.exceptionTable.toList, False)) (h2 : Snd x 2 X2) (h53 : Snd x 53 X53) (h161 : Snd x 161 X161) : Snd x 53 (bX5_reads_53 E Q X2 X53 X161) := by
  unfold bX5_reads_53
  refine s_iload_n rfl G.b dX5_reads_53 ?_
  refine s_iflt (tgt := 202) G.b dX5_reads_54 (by decide) (tX5_reads_202 EN G hF hC hxt h2 h53 h161) ?_
  refine s_aload_n rfl G.b dX5_reads_57 ?_
  refine s_getf G.b G.ow G.kn (G.hts _ q1927) (fun _ h => h) fa_79 dX5_reads_58 ?_
  refine s_iload_n rfl G.b dX5_reads_61 ?_
  refine s_iconst (by decide) G.b dX5_reads_62 ?_
  refine s_iast G.b G.kn dX5_reads_63 ?_
  refine s_iload_n rfl G.b dX5_reads_64 ?_
  refine s_bipush (by decide) G.b dX5_reads_65 ?_
  refine s_idiv G.b dX5_reads_67 ?_
  refine s_istore_n rfl G.b (by rw [G.nl]; decide) (fun _ _ => by rw [hC]) dX5_reads_68 ?_
  refine s_iload_n rfl G.b dX5_reads_69 ?_
  refine s_bipush (by decide) G.b dX5_reads_70 ?_
  refine s_irem G.b dX5_reads_72 ?_
  refine s_aload_n rfl G.b dX5_reads_73 ?_
  refine s_getf G.b G.ow G.kn (G.hts _ q1929) (fun _ h => h) fa_94 dX5_reads_74 ?_
  refine s_icmpne (tgt := 93) G.b dX5_reads_77 (by decide) (tX5_reads_93 EN G hF hC hxt h2 h53 h161) ?_
  refine s_aload_n rfl G.b dX5_reads_80 ?_
  refine s_getf G.b G.ow G.kn (G.hts _ q1919) (fun _ h => h) fa_92 dX5_reads_81 ?_
  refine s_iload_n rfl G.b dX5_reads_84 ?_
  refine s_iald G.b G.kn dX5_reads_85 ?_
  refine s_iflt (tgt := 93) G.b dX5_reads_86 (by decide) (tX5_reads_93 EN G hF hC hxt h2 h53 h161) ?_
  refine s_iconst (by decide) G.b dX5_reads_89 ?_
  exact s_goto (tgt := 94) G.b dX5_reads_90 (by decide) (tX5_reads_94 EN G hF hC hxt h2 h53 h161)
set_option maxHeartbeats 4000000 in
theorem tX5_reads_36 {x : CX} {E : Nat → Value} {Q : Rs → HS → Prop} {X2 X53 X161 : Ct} (EN : EX x E) (G : Gd x cX5_reads "ChantRulesModel" yX5_reads 5 (Option.some Jvm.ClassFile.FieldType.boolean) Q) (hF : x.1.2.2.2.frames = 5 ∧ x.1.2.2.2.locals = 141) (hC : x.2.2.2.2.2 = (fun _ => false)) (hxt : (∀ z ∈ x.2.2.1.2.1.exceptionTable.toList, False)) (h2 : Snd x 2 X2) (h53 : Snd x 53 X53) (h161 : Snd x 161 X161) : Snd x 36 (bX5_reads_36 E Q X2 X53 X161) := by
  unfold bX5_reads_36
  refine s_aload_n rfl G.b dX5_reads_36 ?_
  refine s_getf G.b G.ow G.kn (G.hts _ q1925) (fun _ h => h) fa_77 dX5_reads_37 ?_
  refine s_iconst (by decide) G.b dX5_reads_40 ?_
  refine s_iconst (by decide) G.b dX5_reads_41 ?_
  refine s_iast G.b G.kn dX5_reads_42 ?_
  refine s_aload_n rfl G.b dX5_reads_43 ?_
  refine s_iconst (by decide) G.b dX5_reads_44 ?_
  refine s_putf G.b G.ow G.kn (G.hts _ q1931) (fun _ h => h) fa_101 (la_cons (r := (RX5, TX5, 37)) G.hts (by decide) rfl q1996 (la_nil)) (by decide +kernel) dX5_reads_45 ?_
  refine s_aload_n rfl G.b dX5_reads_48 ?_
  refine s_callV G (mX5_nextPlace EN) q2150 q2152 (sel_cons (r := (RX5, TX5, 37)) (by decide) rfl qs53 (sel_nil)) q90 q2153 nmk_267 (rm_of hF (Nat.le_of_ble_eq_true rfl) (Nat.le_of_ble_eq_true rfl)) dX5_reads_49 ?_ (sx_out G (fun z hz => (hxt z hz).elim))
  refine s_istore_n rfl G.b (by rw [G.nl]; decide) (fun _ _ => by rw [hC]) dX5_reads_52 ?_
  exact h53
set_option maxHeartbeats 4000000 in
theorem tX5_reads_2 {x : CX} {E : Nat → Value} {Q : Rs → HS → Prop} {X2 X53 X161 : Ct} (EN : EX x E) (G : Gd x cX5_reads "ChantRulesModel" yX5_reads 5 (Option.some Jvm.ClassFile.FieldType.boolean) Q) (hF : x.1.2.2.2.frames = 5 ∧ x.1.2.2.2.locals = 141) (hC : x.2.2.2.2.2 = (fun _ => false)) (hxt : (∀ z ∈ x.2.2.1.2.1.exceptionTable.toList, False)) (h2 : Snd x 2 X2) (h53 : Snd x 53 X53) (h161 : Snd x 161 X161) : Snd x 2 (bX5_reads_2 E Q X2 X53 X161) := by
  unfold bX5_reads_2
  refine s_iload_n rfl G.b dX5_reads_2 ?_
  refine s_sipush (by decide) G.b dX5_reads_3 ?_
  refine s_icmpge (tgt := 36) G.b dX5_reads_6 (by decide) (tX5_reads_36 EN G hF hC hxt h2 h53 h161) ?_
  refine s_aload_n rfl G.b dX5_reads_9 ?_
  refine s_getf G.b G.ow G.kn (G.hts _ q1925) (fun _ h => h) fa_77 dX5_reads_10 ?_
  refine s_iload_n rfl G.b dX5_reads_13 ?_
  refine s_iconst (by decide) G.b dX5_reads_14 ?_
  refine s_iast G.b G.kn dX5_reads_15 ?_
  refine s_aload_n rfl G.b dX5_reads_16 ?_
  refine s_getf G.b G.ow G.kn (G.hts _ q1927) (fun _ h => h) fa_79 dX5_reads_17 ?_
  refine s_iload_n rfl G.b dX5_reads_20 ?_
  refine s_iconst (by decide) G.b dX5_reads_21 ?_
  refine s_iast G.b G.kn dX5_reads_22 ?_
  refine s_aload_n rfl G.b dX5_reads_23 ?_
  refine s_getf G.b G.ow G.kn (G.hts _ q1926) (fun _ h => h) fa_78 dX5_reads_24 ?_
  refine s_iload_n rfl G.b dX5_reads_27 ?_
  refine s_iconst (by decide) G.b dX5_reads_28 ?_
  refine s_iast G.b G.kn dX5_reads_29 ?_
  refine s_iinc (by decide) G.b (by rw [G.nl]; decide) (fun _ _ => by rw [hC]) dX5_reads_30 ?_
  exact s_goto (tgt := 2) G.b dX5_reads_33 (by decide) h2
set_option maxHeartbeats 4000000 in
theorem tX5_reads_0 {x : CX} {E : Nat → Value} {Q : Rs → HS → Prop} {X2 X53 X161 : Ct} (EN : EX x E) (G : Gd x cX5_reads "ChantRulesModel" yX5_reads 5 (Option.some Jvm.ClassFile.FieldType.boolean) Q) (hF : x.1.2.2.2.frames = 5 ∧ x.1.2.2.2.locals = 141) (hC : x.2.2.2.2.2 = (fun _ => false)) (hxt : (∀ z ∈ x.2.2.1.2.1.exceptionTable.toList, False)) (h2 : Snd x 2 X2) (h53 : Snd x 53 X53) (h161 : Snd x 161 X161) : Snd x 0 (bX5_reads_0 E Q X2 X53 X161) := by
  unfold bX5_reads_0
  refine s_iconst (by decide) G.b dX5_reads_0 ?_
  refine s_istore_n rfl G.b (by rw [G.nl]; decide) (fun _ _ => by rw [hC]) dX5_reads_1 ?_
  exact h2
set_option maxHeartbeats 4000000 in
theorem mX5_reads {l : Launch} {D : DE} {s0 : State} {E : Nat → Value} (EN : EV l D s0 E) : rMet l D s0 yX5_reads (ws_ yX5_reads cX5_reads 5 (Option.some Jvm.ClassFile.FieldType.boolean)) 5 141 (wX5_reads E) := by
  refine body_met (fun _ => false) EN.kn (fun w h => h) (by decide +kernel) rfl (fun av h Q hw => ?_) ?_
  · unfold wX5_reads at hw
    split at hw
    · exact Nat.le_of_ble_eq_true rfl
    · exact hw.elim
  · intro p e s m below meth c av h Q hxt G hw
    unfold wX5_reads at hw
    split at hw
    · exact tX5_reads_0 EN G ⟨rfl, rfl⟩ rfl hxt (fun _ _ _ h => h) (fun _ _ _ h => h) (fun _ _ _ h => h) _ _ _ (hw (AW _ 2) (AW _ 53) (AW _ 161) (tX5_reads_2 EN G ⟨rfl, rfl⟩ rfl hxt (fun _ _ _ h => h) (fun _ _ _ h => h) (fun _ _ _ h => h)) (tX5_reads_53 EN G ⟨rfl, rfl⟩ rfl hxt (fun _ _ _ h => h) (fun _ _ _ h => h) (fun _ _ _ h => h)) (tX5_reads_161 EN G ⟨rfl, rfl⟩ rfl hxt (fun _ _ _ h => h) (fun _ _ _ h => h) (fun _ _ _ h => h)))
    · exact hw.elim
/-! ChantRulesModel.both()I (X5_both) -/
theorem nmk_269 : nm_ok yX5_laysBoth 0 := ⟨by decide +kernel, by decide +kernel, by decide +kernel⟩
theorem nmk_270 : nm_ok yX5_reads 0 := ⟨by decide +kernel, by decide +kernel, by decide +kernel⟩
theorem nmk_271 : nm_ok yX5_isWord 0 := ⟨by decide +kernel, by decide +kernel, by decide +kernel⟩
def bX5_both_30 (E : Nat → Value) (Q : Rs → HS → Prop) : Ct :=
  o_ireturn .int Q
def bX5_both_28 (E : Nat → Value) (Q : Rs → HS → Prop) : Ct :=
  o_push (.int (-15)) <|
  (bX5_both_30 E Q)
def bX5_both_10 (E : Nat → Value) (Q : Rs → HS → Prop) : Ct :=
  o_aload 0 <|
  o_callV [8] 1 (wX5_laysBoth E) (x_out Q) <|
  o_aload 0 <|
  o_callV [8] 1 (wX5_reads E) (x_out Q) <|
  o_ifeq (bX5_both_28 E Q) <|
  o_aload 0 <|
  o_getf [8] 27 <|
  (bX5_both_30 E Q)
def bX5_both_0 (E : Nat → Value) (Q : Rs → HS → Prop) : Ct :=
  o_aload 0 <|
  o_callV [8] 1 (wX5_isWord E) (x_out Q) <|
  o_ifne (bX5_both_10 E Q) <|
  o_push (.int (-12)) <|
  o_ireturn .int Q
def wX5_both (E : Nat → Value) : Wp := fun av h Q => match av with
  | [a0] => bX5_both_0 E Q [a0] [] h
  | _ => False
set_option maxHeartbeats 4000000 in
theorem tX5_both_30 {x : CX} {E : Nat → Value} {Q : Rs → HS → Prop} (EN : EX x E) (G : Gd x cX5_both "ChantRulesModel" yX5_both 1 (Option.some Jvm.ClassFile.FieldType.int) Q) (hF : x.1.2.2.2.frames = 6 ∧ x.1.2.2.2.locals = 165) (hC : x.2.2.2.2.2 = (fun _ => false)) (hxt : (∀ z ∈ x.2.2.1.2.1.exceptionTable.toList, False)) : Snd x 30 (bX5_both_30 E Q) := by
  unfold bX5_both_30
  exact s_ireturn G dX5_both_30
set_option maxHeartbeats 4000000 in
theorem tX5_both_28 {x : CX} {E : Nat → Value} {Q : Rs → HS → Prop} (EN : EX x E) (G : Gd x cX5_both "ChantRulesModel" yX5_both 1 (Option.some Jvm.ClassFile.FieldType.int) Q) (hF : x.1.2.2.2.frames = 6 ∧ x.1.2.2.2.locals = 165) (hC : x.2.2.2.2.2 = (fun _ => false)) (hxt : (∀ z ∈ x.2.2.1.2.1.exceptionTable.toList, False)) : Snd x 28 (bX5_both_28 E Q) := by
  unfold bX5_both_28
  refine s_bipush (by decide) G.b dX5_both_28 ?_
  exact (tX5_both_30 EN G hF hC hxt)
set_option maxHeartbeats 4000000 in
theorem tX5_both_10 {x : CX} {E : Nat → Value} {Q : Rs → HS → Prop} (EN : EX x E) (G : Gd x cX5_both "ChantRulesModel" yX5_both 1 (Option.some Jvm.ClassFile.FieldType.int) Q) (hF : x.1.2.2.2.frames = 6 ∧ x.1.2.2.2.locals = 165) (hC : x.2.2.2.2.2 = (fun _ => false)) (hxt : (∀ z ∈ x.2.2.1.2.1.exceptionTable.toList, False)) : Snd x 10 (bX5_both_10 E Q) := by
  unfold bX5_both_10
  refine s_aload_n rfl G.b dX5_both_10 ?_
  refine s_callV G (mX5_laysBoth EN) q2182 q2184 (sel_cons (r := (RX5, TX5, 37)) (by decide) rfl qs59 (sel_nil)) q90 q2185 nmk_269 (rm_of hF (Nat.le_of_ble_eq_true rfl) (Nat.le_of_ble_eq_true rfl)) dX5_both_11 ?_ (sx_out G (fun z hz => (hxt z hz).elim))
  refine s_aload_n rfl G.b dX5_both_14 ?_
  refine s_callV G (mX5_reads EN) q2146 q2148 (sel_cons (r := (RX5, TX5, 37)) (by decide) rfl qs52 (sel_nil)) q90 q2149 nmk_270 (rm_of hF (Nat.le_of_ble_eq_true rfl) (Nat.le_of_ble_eq_true rfl)) dX5_both_15 ?_ (sx_out G (fun z hz => (hxt z hz).elim))
  refine s_ifeq (tgt := 28) G.b dX5_both_18 (by decide) (tX5_both_28 EN G hF hC hxt) ?_
  refine s_aload_n rfl G.b dX5_both_21 ?_
  refine s_getf G.b G.ow G.kn (G.hts _ q1930) (fun _ h => h) fa_102 dX5_both_22 ?_
  exact s_goto (tgt := 30) G.b dX5_both_25 (by decide) (tX5_both_30 EN G hF hC hxt)
set_option maxHeartbeats 4000000 in
theorem tX5_both_0 {x : CX} {E : Nat → Value} {Q : Rs → HS → Prop} (EN : EX x E) (G : Gd x cX5_both "ChantRulesModel" yX5_both 1 (Option.some Jvm.ClassFile.FieldType.int) Q) (hF : x.1.2.2.2.frames = 6 ∧ x.1.2.2.2.locals = 165) (hC : x.2.2.2.2.2 = (fun _ => false)) (hxt : (∀ z ∈ x.2.2.1.2.1.exceptionTable.toList, False)) : Snd x 0 (bX5_both_0 E Q) := by
  unfold bX5_both_0
  refine s_aload_n rfl G.b dX5_both_0 ?_
  refine s_callV G (mX5_isWord EN) q2142 q2144 (sel_cons (r := (RX5, TX5, 37)) (by decide) rfl qs51 (sel_nil)) q90 q2145 nmk_271 (rm_of hF (Nat.le_of_ble_eq_true rfl) (Nat.le_of_ble_eq_true rfl)) dX5_both_1 ?_ (sx_out G (fun z hz => (hxt z hz).elim))
  refine s_ifne (tgt := 10) G.b dX5_both_4 (by decide) (tX5_both_10 EN G hF hC hxt) ?_
  refine s_bipush (by decide) G.b dX5_both_7 ?_
  exact s_ireturn G dX5_both_9
set_option maxHeartbeats 4000000 in
theorem mX5_both {l : Launch} {D : DE} {s0 : State} {E : Nat → Value} (EN : EV l D s0 E) : rMet l D s0 yX5_both (ws_ yX5_both cX5_both 1 (Option.some Jvm.ClassFile.FieldType.int)) 6 165 (wX5_both E) := by
  refine body_met (fun _ => false) EN.kn (fun w h => h) (by decide +kernel) rfl (fun av h Q hw => ?_) ?_
  · unfold wX5_both at hw
    split at hw
    · exact Nat.le_of_ble_eq_true rfl
    · exact hw.elim
  · intro p e s m below meth c av h Q hxt G hw
    unfold wX5_both at hw
    split at hw
    · exact tX5_both_0 EN G ⟨rfl, rfl⟩ rfl hxt _ _ _ hw
    · exact hw.elim
/-! ChantRulesModel.bothAgain()I (X5_bothAgain) -/
theorem nmk_272 : nm_ok yX5_both 0 := ⟨by decide +kernel, by decide +kernel, by decide +kernel⟩
def bX5_bothAgain_0 (E : Nat → Value) (Q : Rs → HS → Prop) : Ct :=
  o_aload 0 <|
  o_callV [8] 1 (wX5_both E) (x_out Q) <|
  o_ireturn .int Q
def wX5_bothAgain (E : Nat → Value) : Wp := fun av h Q => match av with
  | [a0] => bX5_bothAgain_0 E Q [a0] [] h
  | _ => False
set_option maxHeartbeats 4000000 in
theorem tX5_bothAgain_0 {x : CX} {E : Nat → Value} {Q : Rs → HS → Prop} (EN : EX x E) (G : Gd x cX5_bothAgain "ChantRulesModel" yX5_bothAgain 1 (Option.some Jvm.ClassFile.FieldType.int) Q) (hF : x.1.2.2.2.frames = 7 ∧ x.1.2.2.2.locals = 185) (hC : x.2.2.2.2.2 = (fun _ => false)) (hxt : (∀ z ∈ x.2.2.1.2.1.exceptionTable.toList, False)) : Snd x 0 (bX5_bothAgain_0 E Q) := by
  unfold bX5_bothAgain_0
  refine s_aload_n rfl G.b dX5_bothAgain_0 ?_
  refine s_callV G (mX5_both EN) q2197 q2179 (sel_cons (r := (RX5, TX5, 37)) (by decide) rfl q2180 (sel_nil)) q90 q2181 nmk_272 (rm_of hF (Nat.le_of_ble_eq_true rfl) (Nat.le_of_ble_eq_true rfl)) dX5_bothAgain_1 ?_ (sx_out G (fun z hz => (hxt z hz).elim))
  exact s_ireturn G dX5_bothAgain_4
set_option maxHeartbeats 4000000 in
theorem mX5_bothAgain {l : Launch} {D : DE} {s0 : State} {E : Nat → Value} (EN : EV l D s0 E) : rMet l D s0 yX5_bothAgain (ws_ yX5_bothAgain cX5_bothAgain 1 (Option.some Jvm.ClassFile.FieldType.int)) 7 185 (wX5_bothAgain E) := by
  refine body_met (fun _ => false) EN.kn (fun w h => h) (by decide +kernel) rfl (fun av h Q hw => ?_) ?_
  · unfold wX5_bothAgain at hw
    split at hw
    · exact Nat.le_of_ble_eq_true rfl
    · exact hw.elim
  · intro p e s m below meth c av h Q hxt G hw
    unfold wX5_bothAgain at hw
    split at hw
    · exact tX5_bothAgain_0 EN G ⟨rfl, rfl⟩ rfl hxt _ _ _ hw
    · exact hw.elim
/-! ChantRulesModel.byBreaths(IZ)I (X5_byBreaths) -/
def bX5_byBreaths_100 (E : Nat → Value) (Q : Rs → HS → Prop) (X5 X17 : Ct) : Ct :=
  o_ireturn .int Q
def bX5_byBreaths_99 (E : Nat → Value) (Q : Rs → HS → Prop) (X5 X17 : Ct) : Ct :=
  o_iload 3 <|
  (bX5_byBreaths_100 E Q X5 X17)
def bX5_byBreaths_87 (E : Nat → Value) (Q : Rs → HS → Prop) (X5 X17 : Ct) : Ct :=
  o_iload 2 <|
  o_ifeq (bX5_byBreaths_99 E Q X5 X17) <|
  o_iload 3 <|
  o_push (.int 1) <|
  o_iload 1 <|
  o_ishl <|
  o_ior <|
  (bX5_byBreaths_100 E Q X5 X17)
def bX5_byBreaths_81 (E : Nat → Value) (Q : Rs → HS → Prop) (X5 X17 : Ct) : Ct :=
  o_iinc 4 1 <|
  X5
def bX5_byBreaths_75 (E : Nat → Value) (Q : Rs → HS → Prop) (X5 X17 : Ct) : Ct :=
  o_iinc 5 1 <|
  X17
def bX5_byBreaths_63 (E : Nat → Value) (Q : Rs → HS → Prop) (X5 X17 : Ct) : Ct :=
  o_iload 3 <|
  o_push (.int 1) <|
  o_aload 0 <|
  o_getf [8] 12 <|
  o_iload 5 <|
  o_ald [100] <|
  o_ishl <|
  o_ior <|
  o_istore 3 <|
  (bX5_byBreaths_75 E Q X5 X17)
def bX5_byBreaths_17 (E : Nat → Value) (Q : Rs → HS → Prop) (X5 X17 : Ct) : Ct :=
  o_iload 5 <|
  o_aload 0 <|
  o_getf [8] 17 <|
  o_icmpge (bX5_byBreaths_81 E Q X5 X17) <|
  o_aload 0 <|
  o_getf [8] 13 <|
  o_iload 5 <|
  o_ald [100] <|
  o_push (.int 4) <|
  o_icmpne (bX5_byBreaths_75 E Q X5 X17) <|
  o_aload 0 <|
  o_getf [8] 11 <|
  o_iload 5 <|
  o_ald [100] <|
  o_iload 1 <|
  o_icmpeq (bX5_byBreaths_63 E Q X5 X17) <|
  o_iload 3 <|
  o_aload 0 <|
  o_getf [8] 11 <|
  o_iload 5 <|
  o_ald [100] <|
  o_ishr <|
  o_push (.int 1) <|
  o_iand <|
  o_push (.int 1) <|
  o_icmpne (bX5_byBreaths_75 E Q X5 X17) <|
  (bX5_byBreaths_63 E Q X5 X17)
def bX5_byBreaths_5 (E : Nat → Value) (Q : Rs → HS → Prop) (X5 X17 : Ct) : Ct :=
  o_iload 4 <|
  o_aload 0 <|
  o_getf [8] 18 <|
  o_icmpgt (bX5_byBreaths_87 E Q X5 X17) <|
  o_push (.int 0) <|
  o_istore 5 <|
  X17
def bX5_byBreaths_0 (E : Nat → Value) (Q : Rs → HS → Prop) (X5 X17 : Ct) : Ct :=
  o_push (.int 0) <|
  o_istore 3 <|
  o_push (.int 0) <|
  o_istore 4 <|
  X5
def wX5_byBreaths (E : Nat → Value) : Wp := fun av h Q => match av with
  | [a0, a1, a2] => ∀ X5 X17 : Ct, (∀ ls st h, bX5_byBreaths_5 E Q X5 X17 ls st h → X5 ls st h) → (∀ ls st h, bX5_byBreaths_17 E Q X5 X17 ls st h → X17 ls st h) → bX5_byBreaths_0 E Q X5 X17 [a0, a1, a2, jk, jk, jk] [] h
  | _ => False
set_option maxHeartbeats 4000000 in
theorem tX5_byBreaths_100 {x : CX} {E : Nat → Value} {Q : Rs → HS → Prop} {X5 X17 : Ct} (EN : EX x E) (G : Gd x cX5_byBreaths "ChantRulesModel" yX5_byBreaths 6 (Option.some Jvm.ClassFile.FieldType.int) Q) (hF : x.1.2.2.2.frames = 2 ∧ x.1.2.2.2.locals = 64) (hC : x.2.2.2.2.2 = (fun _ => false)) (hxt : (∀ z ∈ x.2.2.1.2.1.exceptionTable.toList, False)) (h5 : Snd x 5 X5) (h17 : Snd x 17 X17) : Snd x 100 (bX5_byBreaths_100 E Q X5 X17) := by
  unfold bX5_byBreaths_100
  exact s_ireturn G dX5_byBreaths_100
set_option maxHeartbeats 4000000 in
theorem tX5_byBreaths_99 {x : CX} {E : Nat → Value} {Q : Rs → HS → Prop} {X5 X17 : Ct} (EN : EX x E) (G : Gd x cX5_byBreaths "ChantRulesModel" yX5_byBreaths 6 (Option.some Jvm.ClassFile.FieldType.int) Q) (hF : x.1.2.2.2.frames = 2 ∧ x.1.2.2.2.locals = 64) (hC : x.2.2.2.2.2 = (fun _ => false)) (hxt : (∀ z ∈ x.2.2.1.2.1.exceptionTable.toList, False)) (h5 : Snd x 5 X5) (h17 : Snd x 17 X17) : Snd x 99 (bX5_byBreaths_99 E Q X5 X17) := by
  unfold bX5_byBreaths_99
  refine s_iload_n rfl G.b dX5_byBreaths_99 ?_
  exact (tX5_byBreaths_100 EN G hF hC hxt h5 h17)
set_option maxHeartbeats 4000000 in
theorem tX5_byBreaths_87 {x : CX} {E : Nat → Value} {Q : Rs → HS → Prop} {X5 X17 : Ct} (EN : EX x E) (G : Gd x cX5_byBreaths "ChantRulesModel" yX5_byBreaths 6 (Option.some Jvm.ClassFile.FieldType.int) Q) (hF : x.1.2.2.2.frames = 2 ∧ x.1.2.2.2.locals = 64) (hC : x.2.2.2.2.2 = (fun _ => false)) (hxt : (∀ z ∈ x.2.2.1.2.1.exceptionTable.toList, False)) (h5 : Snd x 5 X5) (h17 : Snd x 17 X17) : Snd x 87 (bX5_byBreaths_87 E Q X5 X17) := by
  unfold bX5_byBreaths_87
  refine s_iload_n rfl G.b dX5_byBreaths_87 ?_
  refine s_ifeq (tgt := 99) G.b dX5_byBreaths_88 (by decide) (tX5_byBreaths_99 EN G hF hC hxt h5 h17) ?_
  refine s_iload_n rfl G.b dX5_byBreaths_91 ?_
  refine s_iconst (by decide) G.b dX5_byBreaths_92 ?_
  refine s_iload_n rfl G.b dX5_byBreaths_93 ?_
  refine s_ishl G.b dX5_byBreaths_94 ?_
  refine s_ior G.b dX5_byBreaths_95 ?_
  exact s_goto (tgt := 100) G.b dX5_byBreaths_96 (by decide) (tX5_byBreaths_100 EN G hF hC hxt h5 h17)
set_option maxHeartbeats 4000000 in
theorem tX5_byBreaths_81 {x : CX} {E : Nat → Value} {Q : Rs → HS → Prop} {X5 X17 : Ct} (EN : EX x E) (G : Gd x cX5_byBreaths "ChantRulesModel" yX5_byBreaths 6 (Option.some Jvm.ClassFile.FieldType.int) Q) (hF : x.1.2.2.2.frames = 2 ∧ x.1.2.2.2.locals = 64) (hC : x.2.2.2.2.2 = (fun _ => false)) (hxt : (∀ z ∈ x.2.2.1.2.1.exceptionTable.toList, False)) (h5 : Snd x 5 X5) (h17 : Snd x 17 X17) : Snd x 81 (bX5_byBreaths_81 E Q X5 X17) := by
  unfold bX5_byBreaths_81
  refine s_iinc (by decide) G.b (by rw [G.nl]; decide) (fun _ _ => by rw [hC]) dX5_byBreaths_81 ?_
  exact s_goto (tgt := 5) G.b dX5_byBreaths_84 (by decide) h5
set_option maxHeartbeats 4000000 in
theorem tX5_byBreaths_75 {x : CX} {E : Nat → Value} {Q : Rs → HS → Prop} {X5 X17 : Ct} (EN : EX x E) (G : Gd x cX5_byBreaths "ChantRulesModel" yX5_byBreaths 6 (Option.some Jvm.ClassFile.FieldType.int) Q) (hF : x.1.2.2.2.frames = 2 ∧ x.1.2.2.2.locals = 64) (hC : x.2.2.2.2.2 = (fun _ => false)) (hxt : (∀ z ∈ x.2.2.1.2.1.exceptionTable.toList, False)) (h5 : Snd x 5 X5) (h17 : Snd x 17 X17) : Snd x 75 (bX5_byBreaths_75 E Q X5 X17) := by
  unfold bX5_byBreaths_75
  refine s_iinc (by decide) G.b (by rw [G.nl]; decide) (fun _ _ => by rw [hC]) dX5_byBreaths_75 ?_
  exact s_goto (tgt := 17) G.b dX5_byBreaths_78 (by decide) h17
set_option maxHeartbeats 4000000 in
theorem tX5_byBreaths_63 {x : CX} {E : Nat → Value} {Q : Rs → HS → Prop} {X5 X17 : Ct} (EN : EX x E) (G : Gd x cX5_byBreaths "ChantRulesModel" yX5_byBreaths 6 (Option.some Jvm.ClassFile.FieldType.int) Q) (hF : x.1.2.2.2.frames = 2 ∧ x.1.2.2.2.locals = 64) (hC : x.2.2.2.2.2 = (fun _ => false)) (hxt : (∀ z ∈ x.2.2.1.2.1.exceptionTable.toList, False)) (h5 : Snd x 5 X5) (h17 : Snd x 17 X17) : Snd x 63 (bX5_byBreaths_63 E Q X5 X17) := by
  unfold bX5_byBreaths_63
  refine s_iload_n rfl G.b dX5_byBreaths_63 ?_
  refine s_iconst (by decide) G.b dX5_byBreaths_64 ?_
  refine s_aload_n rfl G.b dX5_byBreaths_65 ?_
  refine s_getf G.b G.ow G.kn (G.hts _ q1915) (fun _ h => h) fa_88 dX5_byBreaths_66 ?_
  refine s_iload G.b dX5_byBreaths_69 ?_
  refine s_iald G.b G.kn dX5_byBreaths_71 ?_
  refine s_ishl G.b dX5_byBreaths_72 ?_
  refine s_ior G.b dX5_byBreaths_73 ?_
  refine s_istore_n rfl G.b (by rw [G.nl]; decide) (fun _ _ => by rw [hC]) dX5_byBreaths_74 ?_
  exact (tX5_byBreaths_75 EN G hF hC hxt h5 h17)
set_option maxHeartbeats 4000000 in
theorem tX5_byBreaths_17 {x : CX} {E : Nat → Value} {Q : Rs → HS → Prop} {X5 X17 : Ct} (EN : EX x E) (G : Gd x cX5_byBreaths "ChantRulesModel" yX5_byBreaths 6 (Option.some Jvm.ClassFile.FieldType.int) Q) (hF : x.1.2.2.2.frames = 2 ∧ x.1.2.2.2.locals = 64) (hC : x.2.2.2.2.2 = (fun _ => false)) (hxt : (∀ z ∈ x.2.2.1.2.1.exceptionTable.toList, False)) (h5 : Snd x 5 X5) (h17 : Snd x 17 X17) : Snd x 17 (bX5_byBreaths_17 E Q X5 X17) := by
  unfold bX5_byBreaths_17
  refine s_iload G.b dX5_byBreaths_17 ?_
  refine s_aload_n rfl G.b dX5_byBreaths_19 ?_
  refine s_getf G.b G.ow G.kn (G.hts _ q1920) (fun _ h => h) fa_99 dX5_byBreaths_20 ?_
  refine s_icmpge (tgt := 81) G.b dX5_byBreaths_23 (by decide) (tX5_byBreaths_81 EN G hF hC hxt h5 h17) ?_
  refine s_aload_n rfl G.b dX5_byBreaths_26 ?_
  refine s_getf G.b G.ow G.kn (G.hts _ q1916) (fun _ h => h) fa_89 dX5_byBreaths_27 ?_
  refine s_iload G.b dX5_byBreaths_30 ?_
  refine s_iald G.b G.kn dX5_byBreaths_32 ?_
  refine s_iconst (by decide) G.b dX5_byBreaths_33 ?_
  refine s_icmpne (tgt := 75) G.b dX5_byBreaths_34 (by decide) (tX5_byBreaths_75 EN G hF hC hxt h5 h17) ?_
  refine s_aload_n rfl G.b dX5_byBreaths_37 ?_
  refine s_getf G.b G.ow G.kn (G.hts _ q1914) (fun _ h => h) fa_87 dX5_byBreaths_38 ?_
  refine s_iload G.b dX5_byBreaths_41 ?_
  refine s_iald G.b G.kn dX5_byBreaths_43 ?_
  refine s_iload_n rfl G.b dX5_byBreaths_44 ?_
  refine s_icmpeq (tgt := 63) G.b dX5_byBreaths_45 (by decide) (tX5_byBreaths_63 EN G hF hC hxt h5 h17) ?_
  refine s_iload_n rfl G.b dX5_byBreaths_48 ?_
  refine s_aload_n rfl G.b dX5_byBreaths_49 ?_
  refine s_getf G.b G.ow G.kn (G.hts _ q1914) (fun _ h => h) fa_87 dX5_byBreaths_50 ?_
  refine s_iload G.b dX5_byBreaths_53 ?_
  refine s_iald G.b G.kn dX5_byBreaths_55 ?_
  refine s_ishr G.b dX5_byBreaths_56 ?_
  refine s_iconst (by decide) G.b dX5_byBreaths_57 ?_
  refine s_iand G.b dX5_byBreaths_58 ?_
  refine s_iconst (by decide) G.b dX5_byBreaths_59 ?_
  refine s_icmpne (tgt := 75) G.b dX5_byBreaths_60 (by decide) (tX5_byBreaths_75 EN G hF hC hxt h5 h17) ?_
  exact (tX5_byBreaths_63 EN G hF hC hxt h5 h17)
set_option maxHeartbeats 4000000 in
theorem tX5_byBreaths_5 {x : CX} {E : Nat → Value} {Q : Rs → HS → Prop} {X5 X17 : Ct} (EN : EX x E) (G : Gd x cX5_byBreaths "ChantRulesModel" yX5_byBreaths 6 (Option.some Jvm.ClassFile.FieldType.int) Q) (hF : x.1.2.2.2.frames = 2 ∧ x.1.2.2.2.locals = 64) (hC : x.2.2.2.2.2 = (fun _ => false)) (hxt : (∀ z ∈ x.2.2.1.2.1.exceptionTable.toList, False)) (h5 : Snd x 5 X5) (h17 : Snd x 17 X17) : Snd x 5 (bX5_byBreaths_5 E Q X5 X17) := by
  unfold bX5_byBreaths_5
  refine s_iload G.b dX5_byBreaths_5 ?_
  refine s_aload_n rfl G.b dX5_byBreaths_7 ?_
  refine s_getf G.b G.ow G.kn (G.hts _ q1921) (fun _ h => h) fa_100 dX5_byBreaths_8 ?_
  refine s_icmpgt (tgt := 87) G.b dX5_byBreaths_11 (by decide) (tX5_byBreaths_87 EN G hF hC hxt h5 h17) ?_
  refine s_iconst (by decide) G.b dX5_byBreaths_14 ?_
  refine s_istore G.b (by rw [G.nl]; decide) (fun _ _ => by rw [hC]) dX5_byBreaths_15 ?_
  exact h17
set_option maxHeartbeats 4000000 in
theorem tX5_byBreaths_0 {x : CX} {E : Nat → Value} {Q : Rs → HS → Prop} {X5 X17 : Ct} (EN : EX x E) (G : Gd x cX5_byBreaths "ChantRulesModel" yX5_byBreaths 6 (Option.some Jvm.ClassFile.FieldType.int) Q) (hF : x.1.2.2.2.frames = 2 ∧ x.1.2.2.2.locals = 64) (hC : x.2.2.2.2.2 = (fun _ => false)) (hxt : (∀ z ∈ x.2.2.1.2.1.exceptionTable.toList, False)) (h5 : Snd x 5 X5) (h17 : Snd x 17 X17) : Snd x 0 (bX5_byBreaths_0 E Q X5 X17) := by
  unfold bX5_byBreaths_0
  refine s_iconst (by decide) G.b dX5_byBreaths_0 ?_
  refine s_istore_n rfl G.b (by rw [G.nl]; decide) (fun _ _ => by rw [hC]) dX5_byBreaths_1 ?_
  refine s_iconst (by decide) G.b dX5_byBreaths_2 ?_
  refine s_istore G.b (by rw [G.nl]; decide) (fun _ _ => by rw [hC]) dX5_byBreaths_3 ?_
  exact h5
set_option maxHeartbeats 4000000 in
theorem mX5_byBreaths {l : Launch} {D : DE} {s0 : State} {E : Nat → Value} (EN : EV l D s0 E) : rMet l D s0 yX5_byBreaths (ws_ yX5_byBreaths cX5_byBreaths 6 (Option.some Jvm.ClassFile.FieldType.int)) 2 64 (wX5_byBreaths E) := by
  refine body_met (fun _ => false) EN.kn (fun w h => h) (by decide +kernel) rfl (fun av h Q hw => ?_) ?_
  · unfold wX5_byBreaths at hw
    split at hw
    · exact Nat.le_of_ble_eq_true rfl
    · exact hw.elim
  · intro p e s m below meth c av h Q hxt G hw
    unfold wX5_byBreaths at hw
    split at hw
    · exact tX5_byBreaths_0 EN G ⟨rfl, rfl⟩ rfl hxt (fun _ _ _ h => h) (fun _ _ _ h => h) _ _ _ (hw (AW _ 5) (AW _ 17) (tX5_byBreaths_5 EN G ⟨rfl, rfl⟩ rfl hxt (fun _ _ _ h => h) (fun _ _ _ h => h)) (tX5_byBreaths_17 EN G ⟨rfl, rfl⟩ rfl hxt (fun _ _ _ h => h) (fun _ _ _ h => h)))
    · exact hw.elim
/-! ChantRulesModel.finds()V (X5_finds) -/
def bX5_finds_164 (E : Nat → Value) (Q : Rs → HS → Prop) (X2 X53 X63 X135 : Ct) : Ct :=
  o_return Q
def bX5_finds_135 (E : Nat → Value) (Q : Rs → HS → Prop) (X2 X53 X63 X135 : Ct) : Ct :=
  o_iload 1 <|
  o_aload 0 <|
  o_getf [8] 18 <|
  o_icmpge (bX5_finds_164 E Q X2 X53 X63 X135) <|
  o_aload 0 <|
  o_getf [8] 20 <|
  o_iload 1 <|
  o_dup2 <|
  o_ald [100] <|
  o_aload 0 <|
  o_getf [8] 19 <|
  o_iload 1 <|
  o_ald [100] <|
  o_iand <|
  o_ast [(100, .int)] <|
  o_iinc 1 1 <|
  X135
def bX5_finds_133 (E : Nat → Value) (Q : Rs → HS → Prop) (X2 X53 X63 X135 : Ct) : Ct :=
  o_push (.int 0) <|
  o_istore 1 <|
  X135
def bX5_finds_127 (E : Nat → Value) (Q : Rs → HS → Prop) (X2 X53 X63 X135 : Ct) : Ct :=
  o_iinc 1 1 <|
  X53
def bX5_finds_63 (E : Nat → Value) (Q : Rs → HS → Prop) (X2 X53 X63 X135 : Ct) : Ct :=
  o_iload 2 <|
  o_aload 0 <|
  o_getf [8] 17 <|
  o_icmpge (bX5_finds_127 E Q X2 X53 X63 X135) <|
  o_aload 0 <|
  o_getf [8] 19 <|
  o_aload 0 <|
  o_getf [8] 12 <|
  o_iload 2 <|
  o_ald [100] <|
  o_dup2 <|
  o_ald [100] <|
  o_aload 0 <|
  o_getf [8] 19 <|
  o_aload 0 <|
  o_getf [8] 11 <|
  o_iload 2 <|
  o_ald [100] <|
  o_ald [100] <|
  o_ior <|
  o_ast [(100, .int)] <|
  o_aload 0 <|
  o_getf [8] 20 <|
  o_aload 0 <|
  o_getf [8] 11 <|
  o_iload 2 <|
  o_ald [100] <|
  o_dup2 <|
  o_ald [100] <|
  o_aload 0 <|
  o_getf [8] 20 <|
  o_aload 0 <|
  o_getf [8] 12 <|
  o_iload 2 <|
  o_ald [100] <|
  o_ald [100] <|
  o_ior <|
  o_ast [(100, .int)] <|
  o_iinc 2 1 <|
  X63
def bX5_finds_53 (E : Nat → Value) (Q : Rs → HS → Prop) (X2 X53 X63 X135 : Ct) : Ct :=
  o_iload 1 <|
  o_aload 0 <|
  o_getf [8] 18 <|
  o_icmpge (bX5_finds_133 E Q X2 X53 X63 X135) <|
  o_push (.int 0) <|
  o_istore 2 <|
  X63
def bX5_finds_51 (E : Nat → Value) (Q : Rs → HS → Prop) (X2 X53 X63 X135 : Ct) : Ct :=
  o_push (.int 0) <|
  o_istore 1 <|
  X53
def bX5_finds_44 (E : Nat → Value) (Q : Rs → HS → Prop) (X2 X53 X63 X135 : Ct) : Ct :=
  o_ast [(100, .int)] <|
  o_iinc 1 1 <|
  X2
def bX5_finds_43 (E : Nat → Value) (Q : Rs → HS → Prop) (X2 X53 X63 X135 : Ct) : Ct :=
  o_push (.int 1) <|
  (bX5_finds_44 E Q X2 X53 X63 X135)
def bX5_finds_24 (E : Nat → Value) (Q : Rs → HS → Prop) (X2 X53 X63 X135 : Ct) : Ct :=
  o_ast [(100, .int)] <|
  o_aload 0 <|
  o_getf [8] 20 <|
  o_iload 1 <|
  o_aload 0 <|
  o_getf [8] 16 <|
  o_iload 1 <|
  o_ald [100] <|
  o_ifge (bX5_finds_43 E Q X2 X53 X63 X135) <|
  o_push (.int 0) <|
  (bX5_finds_44 E Q X2 X53 X63 X135)
def bX5_finds_23 (E : Nat → Value) (Q : Rs → HS → Prop) (X2 X53 X63 X135 : Ct) : Ct :=
  o_push (.int 0) <|
  (bX5_finds_24 E Q X2 X53 X63 X135)
def bX5_finds_2 (E : Nat → Value) (Q : Rs → HS → Prop) (X2 X53 X63 X135 : Ct) : Ct :=
  o_iload 1 <|
  o_aload 0 <|
  o_getf [8] 18 <|
  o_icmpge (bX5_finds_51 E Q X2 X53 X63 X135) <|
  o_aload 0 <|
  o_getf [8] 19 <|
  o_iload 1 <|
  o_iload 1 <|
  o_ifne (bX5_finds_23 E Q X2 X53 X63 X135) <|
  o_push (.int 1) <|
  (bX5_finds_24 E Q X2 X53 X63 X135)
def bX5_finds_0 (E : Nat → Value) (Q : Rs → HS → Prop) (X2 X53 X63 X135 : Ct) : Ct :=
  o_push (.int 0) <|
  o_istore 1 <|
  X2
def wX5_finds (E : Nat → Value) : Wp := fun av h Q => match av with
  | [a0] => ∀ X2 X53 X63 X135 : Ct, (∀ ls st h, bX5_finds_2 E Q X2 X53 X63 X135 ls st h → X2 ls st h) → (∀ ls st h, bX5_finds_53 E Q X2 X53 X63 X135 ls st h → X53 ls st h) → (∀ ls st h, bX5_finds_63 E Q X2 X53 X63 X135 ls st h → X63 ls st h) → (∀ ls st h, bX5_finds_135 E Q X2 X53 X63 X135 ls st h → X135 ls st h) → bX5_finds_0 E Q X2 X53 X63 X135 [a0, jk, jk] [] h
  | _ => False
set_option maxHeartbeats 4000000 in
theorem tX5_finds_164 {x : CX} {E : Nat → Value} {Q : Rs → HS → Prop} {X2 X53 X63 X135 : Ct} (EN : EX x E) (G : Gd x cX5_finds "ChantRulesModel" yX5_finds 3 (Option.none : Option Jvm.ClassFile.FieldType) Q) (hF : x.1.2.2.2.frames = 2 ∧ x.1.2.2.2.locals = 64) (hC : x.2.2.2.2.2 = (fun _ => false)) (hxt : (∀ z ∈ x.2.2.1.2.1.exceptionTable.toList, False)) (h2 : Snd x 2 X2) (h53 : Snd x 53 X53) (h63 : Snd x 63 X63) (h135 : Snd x 135 X135) : Snd x 164 (bX5_finds_164 E Q X2 X53 X63 X135) := by
  unfold bX5_finds_164
  exact s_return G dX5_finds_164
set_option maxHeartbeats 4000000 in
theorem tX5_finds_135 {x : CX} {E : Nat → Value} {Q : Rs → HS → Prop} {X2 X53 X63 X135 : Ct} (EN : EX x E) (G : Gd x cX5_finds "ChantRulesModel" yX5_finds 3 (Option.none : Option Jvm.ClassFile.FieldType) Q) (hF : x.1.2.2.2.frames = 2 ∧ x.1.2.2.2.locals = 64) (hC : x.2.2.2.2.2 = (fun _ => false)) (hxt : (∀ z ∈ x.2.2.1.2.1.exceptionTable.toList, False)) (h2 : Snd x 2 X2) (h53 : Snd x 53 X53) (h63 : Snd x 63 X63) (h135 : Snd x 135 X135) : Snd x 135 (bX5_finds_135 E Q X2 X53 X63 X135) := by
  unfold bX5_finds_135
  refine s_iload_n rfl G.b dX5_finds_135 ?_
  refine s_aload_n rfl G.b dX5_finds_136 ?_
  refine s_getf G.b G.ow G.kn (G.hts _ q1921) (fun _ h => h) fa_100 dX5_finds_137 ?_
  refine s_icmpge (tgt := 164) G.b dX5_finds_140 (by decide) (tX5_finds_164 EN G hF hC hxt h2 h53 h63 h135) ?_
  refine s_aload_n rfl G.b dX5_finds_143 ?_
  refine s_getf G.b G.ow G.kn (G.hts _ q1923) (fun _ h => h) fa_75 dX5_finds_144 ?_
  refine s_iload_n rfl G.b dX5_finds_147 ?_
  refine s_dup2 G.b dX5_finds_148 ?_
  refine s_iald G.b G.kn dX5_finds_149 ?_
  refine s_aload_n rfl G.b dX5_finds_150 ?_
  refine s_getf G.b G.ow G.kn (G.hts _ q1922) (fun _ h => h) fa_74 dX5_finds_151 ?_
  refine s_iload_n rfl G.b dX5_finds_154 ?_
  refine s_iald G.b G.kn dX5_finds_155 ?_
  refine s_iand G.b dX5_finds_156 ?_
  refine s_iast G.b G.kn dX5_finds_157 ?_
  refine s_iinc (by decide) G.b (by rw [G.nl]; decide) (fun _ _ => by rw [hC]) dX5_finds_158 ?_
  exact s_goto (tgt := 135) G.b dX5_finds_161 (by decide) h135
set_option maxHeartbeats 4000000 in
theorem tX5_finds_133 {x : CX} {E : Nat → Value} {Q : Rs → HS → Prop} {X2 X53 X63 X135 : Ct} (EN : EX x E) (G : Gd x cX5_finds "ChantRulesModel" yX5_finds 3 (Option.none : Option Jvm.ClassFile.FieldType) Q) (hF : x.1.2.2.2.frames = 2 ∧ x.1.2.2.2.locals = 64) (hC : x.2.2.2.2.2 = (fun _ => false)) (hxt : (∀ z ∈ x.2.2.1.2.1.exceptionTable.toList, False)) (h2 : Snd x 2 X2) (h53 : Snd x 53 X53) (h63 : Snd x 63 X63) (h135 : Snd x 135 X135) : Snd x 133 (bX5_finds_133 E Q X2 X53 X63 X135) := by
  unfold bX5_finds_133
  refine s_iconst (by decide) G.b dX5_finds_133 ?_
  refine s_istore_n rfl G.b (by rw [G.nl]; decide) (fun _ _ => by rw [hC]) dX5_finds_134 ?_
  exact h135
set_option maxHeartbeats 4000000 in
theorem tX5_finds_127 {x : CX} {E : Nat → Value} {Q : Rs → HS → Prop} {X2 X53 X63 X135 : Ct} (EN : EX x E) (G : Gd x cX5_finds "ChantRulesModel" yX5_finds 3 (Option.none : Option Jvm.ClassFile.FieldType) Q) (hF : x.1.2.2.2.frames = 2 ∧ x.1.2.2.2.locals = 64) (hC : x.2.2.2.2.2 = (fun _ => false)) (hxt : (∀ z ∈ x.2.2.1.2.1.exceptionTable.toList, False)) (h2 : Snd x 2 X2) (h53 : Snd x 53 X53) (h63 : Snd x 63 X63) (h135 : Snd x 135 X135) : Snd x 127 (bX5_finds_127 E Q X2 X53 X63 X135) := by
  unfold bX5_finds_127
  refine s_iinc (by decide) G.b (by rw [G.nl]; decide) (fun _ _ => by rw [hC]) dX5_finds_127 ?_
  exact s_goto (tgt := 53) G.b dX5_finds_130 (by decide) h53
set_option maxHeartbeats 4000000 in
theorem tX5_finds_63 {x : CX} {E : Nat → Value} {Q : Rs → HS → Prop} {X2 X53 X63 X135 : Ct} (EN : EX x E) (G : Gd x cX5_finds "ChantRulesModel" yX5_finds 3 (Option.none : Option Jvm.ClassFile.FieldType) Q) (hF : x.1.2.2.2.frames = 2 ∧ x.1.2.2.2.locals = 64) (hC : x.2.2.2.2.2 = (fun _ => false)) (hxt : (∀ z ∈ x.2.2.1.2.1.exceptionTable.toList, False)) (h2 : Snd x 2 X2) (h53 : Snd x 53 X53) (h63 : Snd x 63 X63) (h135 : Snd x 135 X135) : Snd x 63 (bX5_finds_63 E Q X2 X53 X63 X135) := by
  unfold bX5_finds_63
  refine s_iload_n rfl G.b dX5_finds_63 ?_
  refine s_aload_n rfl G.b dX5_finds_64 ?_
  refine s_getf G.b G.ow G.kn (G.hts _ q1920) (fun _ h => h) fa_99 dX5_finds_65 ?_
  refine s_icmpge (tgt := 127) G.b dX5_finds_68 (by decide) (tX5_finds_127 EN G hF hC hxt h2 h53 h63 h135) ?_
  refine s_aload_n rfl G.b dX5_finds_71 ?_
  refine s_getf G.b G.ow G.kn (G.hts _ q1922) (fun _ h => h) fa_74 dX5_finds_72 ?_
  refine s_aload_n rfl G.b dX5_finds_75 ?_
  refine s_getf G.b G.ow G.kn (G.hts _ q1915) (fun _ h => h) fa_88 dX5_finds_76 ?_
  refine s_iload_n rfl G.b dX5_finds_79 ?_
  refine s_iald G.b G.kn dX5_finds_80 ?_
  refine s_dup2 G.b dX5_finds_81 ?_
  refine s_iald G.b G.kn dX5_finds_82 ?_
  refine s_aload_n rfl G.b dX5_finds_83 ?_
  refine s_getf G.b G.ow G.kn (G.hts _ q1922) (fun _ h => h) fa_74 dX5_finds_84 ?_
  refine s_aload_n rfl G.b dX5_finds_87 ?_
  refine s_getf G.b G.ow G.kn (G.hts _ q1914) (fun _ h => h) fa_87 dX5_finds_88 ?_
  refine s_iload_n rfl G.b dX5_finds_91 ?_
  refine s_iald G.b G.kn dX5_finds_92 ?_
  refine s_iald G.b G.kn dX5_finds_93 ?_
  refine s_ior G.b dX5_finds_94 ?_
  refine s_iast G.b G.kn dX5_finds_95 ?_
  refine s_aload_n rfl G.b dX5_finds_96 ?_
  refine s_getf G.b G.ow G.kn (G.hts _ q1923) (fun _ h => h) fa_75 dX5_finds_97 ?_
  refine s_aload_n rfl G.b dX5_finds_100 ?_
  refine s_getf G.b G.ow G.kn (G.hts _ q1914) (fun _ h => h) fa_87 dX5_finds_101 ?_
  refine s_iload_n rfl G.b dX5_finds_104 ?_
  refine s_iald G.b G.kn dX5_finds_105 ?_
  refine s_dup2 G.b dX5_finds_106 ?_
  refine s_iald G.b G.kn dX5_finds_107 ?_
  refine s_aload_n rfl G.b dX5_finds_108 ?_
  refine s_getf G.b G.ow G.kn (G.hts _ q1923) (fun _ h => h) fa_75 dX5_finds_109 ?_
  refine s_aload_n rfl G.b dX5_finds_112 ?_
  refine s_getf G.b G.ow G.kn (G.hts _ q1915) (fun _ h => h) fa_88 dX5_finds_113 ?_
  refine s_iload_n rfl G.b dX5_finds_116 ?_
  refine s_iald G.b G.kn dX5_finds_117 ?_
  refine s_iald G.b G.kn dX5_finds_118 ?_
  refine s_ior G.b dX5_finds_119 ?_
  refine s_iast G.b G.kn dX5_finds_120 ?_
  refine s_iinc (by decide) G.b (by rw [G.nl]; decide) (fun _ _ => by rw [hC]) dX5_finds_121 ?_
  exact s_goto (tgt := 63) G.b dX5_finds_124 (by decide) h63
set_option maxHeartbeats 4000000 in
theorem tX5_finds_53 {x : CX} {E : Nat → Value} {Q : Rs → HS → Prop} {X2 X53 X63 X135 : Ct} (EN : EX x E) (G : Gd x cX5_finds "ChantRulesModel" yX5_finds 3 (Option.none : Option Jvm.ClassFile.FieldType) Q) (hF : x.1.2.2.2.frames = 2 ∧ x.1.2.2.2.locals = 64) (hC : x.2.2.2.2.2 = (fun _ => false)) (hxt : (∀ z ∈ x.2.2.1.2.1.exceptionTable.toList, False)) (h2 : Snd x 2 X2) (h53 : Snd x 53 X53) (h63 : Snd x 63 X63) (h135 : Snd x 135 X135) : Snd x 53 (bX5_finds_53 E Q X2 X53 X63 X135) := by
  unfold bX5_finds_53
  refine s_iload_n rfl G.b dX5_finds_53 ?_
  refine s_aload_n rfl G.b dX5_finds_54 ?_
  refine s_getf G.b G.ow G.kn (G.hts _ q1921) (fun _ h => h) fa_100 dX5_finds_55 ?_
  refine s_icmpge (tgt := 133) G.b dX5_finds_58 (by decide) (tX5_finds_133 EN G hF hC hxt h2 h53 h63 h135) ?_
  refine s_iconst (by decide) G.b dX5_finds_61 ?_
  refine s_istore_n rfl G.b (by rw [G.nl]; decide) (fun _ _ => by rw [hC]) dX5_finds_62 ?_
  exact h63
set_option maxHeartbeats 4000000 in
theorem tX5_finds_51 {x : CX} {E : Nat → Value} {Q : Rs → HS → Prop} {X2 X53 X63 X135 : Ct} (EN : EX x E) (G : Gd x cX5_finds "ChantRulesModel" yX5_finds 3 (Option.none : Option Jvm.ClassFile.FieldType) Q) (hF : x.1.2.2.2.frames = 2 ∧ x.1.2.2.2.locals = 64) (hC : x.2.2.2.2.2 = (fun _ => false)) (hxt : (∀ z ∈ x.2.2.1.2.1.exceptionTable.toList, False)) (h2 : Snd x 2 X2) (h53 : Snd x 53 X53) (h63 : Snd x 63 X63) (h135 : Snd x 135 X135) : Snd x 51 (bX5_finds_51 E Q X2 X53 X63 X135) := by
  unfold bX5_finds_51
  refine s_iconst (by decide) G.b dX5_finds_51 ?_
  refine s_istore_n rfl G.b (by rw [G.nl]; decide) (fun _ _ => by rw [hC]) dX5_finds_52 ?_
  exact h53
set_option maxHeartbeats 4000000 in
theorem tX5_finds_44 {x : CX} {E : Nat → Value} {Q : Rs → HS → Prop} {X2 X53 X63 X135 : Ct} (EN : EX x E) (G : Gd x cX5_finds "ChantRulesModel" yX5_finds 3 (Option.none : Option Jvm.ClassFile.FieldType) Q) (hF : x.1.2.2.2.frames = 2 ∧ x.1.2.2.2.locals = 64) (hC : x.2.2.2.2.2 = (fun _ => false)) (hxt : (∀ z ∈ x.2.2.1.2.1.exceptionTable.toList, False)) (h2 : Snd x 2 X2) (h53 : Snd x 53 X53) (h63 : Snd x 63 X63) (h135 : Snd x 135 X135) : Snd x 44 (bX5_finds_44 E Q X2 X53 X63 X135) := by
  unfold bX5_finds_44
  refine s_iast G.b G.kn dX5_finds_44 ?_
  refine s_iinc (by decide) G.b (by rw [G.nl]; decide) (fun _ _ => by rw [hC]) dX5_finds_45 ?_
  exact s_goto (tgt := 2) G.b dX5_finds_48 (by decide) h2
set_option maxHeartbeats 4000000 in
theorem tX5_finds_43 {x : CX} {E : Nat → Value} {Q : Rs → HS → Prop} {X2 X53 X63 X135 : Ct} (EN : EX x E) (G : Gd x cX5_finds "ChantRulesModel" yX5_finds 3 (Option.none : Option Jvm.ClassFile.FieldType) Q) (hF : x.1.2.2.2.frames = 2 ∧ x.1.2.2.2.locals = 64) (hC : x.2.2.2.2.2 = (fun _ => false)) (hxt : (∀ z ∈ x.2.2.1.2.1.exceptionTable.toList, False)) (h2 : Snd x 2 X2) (h53 : Snd x 53 X53) (h63 : Snd x 63 X63) (h135 : Snd x 135 X135) : Snd x 43 (bX5_finds_43 E Q X2 X53 X63 X135) := by
  unfold bX5_finds_43
  refine s_iconst (by decide) G.b dX5_finds_43 ?_
  exact (tX5_finds_44 EN G hF hC hxt h2 h53 h63 h135)
set_option maxHeartbeats 4000000 in
theorem tX5_finds_24 {x : CX} {E : Nat → Value} {Q : Rs → HS → Prop} {X2 X53 X63 X135 : Ct} (EN : EX x E) (G : Gd x cX5_finds "ChantRulesModel" yX5_finds 3 (Option.none : Option Jvm.ClassFile.FieldType) Q) (hF : x.1.2.2.2.frames = 2 ∧ x.1.2.2.2.locals = 64) (hC : x.2.2.2.2.2 = (fun _ => false)) (hxt : (∀ z ∈ x.2.2.1.2.1.exceptionTable.toList, False)) (h2 : Snd x 2 X2) (h53 : Snd x 53 X53) (h63 : Snd x 63 X63) (h135 : Snd x 135 X135) : Snd x 24 (bX5_finds_24 E Q X2 X53 X63 X135) := by
  unfold bX5_finds_24
  refine s_iast G.b G.kn dX5_finds_24 ?_
  refine s_aload_n rfl G.b dX5_finds_25 ?_
  refine s_getf G.b G.ow G.kn (G.hts _ q1923) (fun _ h => h) fa_75 dX5_finds_26 ?_
  refine s_iload_n rfl G.b dX5_finds_29 ?_
  refine s_aload_n rfl G.b dX5_finds_30 ?_
  refine s_getf G.b G.ow G.kn (G.hts _ q1919) (fun _ h => h) fa_92 dX5_finds_31 ?_
  refine s_iload_n rfl G.b dX5_finds_34 ?_
  refine s_iald G.b G.kn dX5_finds_35 ?_
  refine s_ifge (tgt := 43) G.b dX5_finds_36 (by decide) (tX5_finds_43 EN G hF hC hxt h2 h53 h63 h135) ?_
  refine s_iconst (by decide) G.b dX5_finds_39 ?_
  exact s_goto (tgt := 44) G.b dX5_finds_40 (by decide) (tX5_finds_44 EN G hF hC hxt h2 h53 h63 h135)
set_option maxHeartbeats 4000000 in
theorem tX5_finds_23 {x : CX} {E : Nat → Value} {Q : Rs → HS → Prop} {X2 X53 X63 X135 : Ct} (EN : EX x E) (G : Gd x cX5_finds "ChantRulesModel" yX5_finds 3 (Option.none : Option Jvm.ClassFile.FieldType) Q) (hF : x.1.2.2.2.frames = 2 ∧ x.1.2.2.2.locals = 64) (hC : x.2.2.2.2.2 = (fun _ => false)) (hxt : (∀ z ∈ x.2.2.1.2.1.exceptionTable.toList, False)) (h2 : Snd x 2 X2) (h53 : Snd x 53 X53) (h63 : Snd x 63 X63) (h135 : Snd x 135 X135) : Snd x 23 (bX5_finds_23 E Q X2 X53 X63 X135) := by
  unfold bX5_finds_23
  refine s_iconst (by decide) G.b dX5_finds_23 ?_
  exact (tX5_finds_24 EN G hF hC hxt h2 h53 h63 h135)
set_option maxHeartbeats 4000000 in
theorem tX5_finds_2 {x : CX} {E : Nat → Value} {Q : Rs → HS → Prop} {X2 X53 X63 X135 : Ct} (EN : EX x E) (G : Gd x cX5_finds "ChantRulesModel" yX5_finds 3 (Option.none : Option Jvm.ClassFile.FieldType) Q) (hF : x.1.2.2.2.frames = 2 ∧ x.1.2.2.2.locals = 64) (hC : x.2.2.2.2.2 = (fun _ => false)) (hxt : (∀ z ∈ x.2.2.1.2.1.exceptionTable.toList, False)) (h2 : Snd x 2 X2) (h53 : Snd x 53 X53) (h63 : Snd x 63 X63) (h135 : Snd x 135 X135) : Snd x 2 (bX5_finds_2 E Q X2 X53 X63 X135) := by
  unfold bX5_finds_2
  refine s_iload_n rfl G.b dX5_finds_2 ?_
  refine s_aload_n rfl G.b dX5_finds_3 ?_
  refine s_getf G.b G.ow G.kn (G.hts _ q1921) (fun _ h => h) fa_100 dX5_finds_4 ?_
  refine s_icmpge (tgt := 51) G.b dX5_finds_7 (by decide) (tX5_finds_51 EN G hF hC hxt h2 h53 h63 h135) ?_
  refine s_aload_n rfl G.b dX5_finds_10 ?_
  refine s_getf G.b G.ow G.kn (G.hts _ q1922) (fun _ h => h) fa_74 dX5_finds_11 ?_
  refine s_iload_n rfl G.b dX5_finds_14 ?_
  refine s_iload_n rfl G.b dX5_finds_15 ?_
  refine s_ifne (tgt := 23) G.b dX5_finds_16 (by decide) (tX5_finds_23 EN G hF hC hxt h2 h53 h63 h135) ?_
  refine s_iconst (by decide) G.b dX5_finds_19 ?_
  exact s_goto (tgt := 24) G.b dX5_finds_20 (by decide) (tX5_finds_24 EN G hF hC hxt h2 h53 h63 h135)
set_option maxHeartbeats 4000000 in
theorem tX5_finds_0 {x : CX} {E : Nat → Value} {Q : Rs → HS → Prop} {X2 X53 X63 X135 : Ct} (EN : EX x E) (G : Gd x cX5_finds "ChantRulesModel" yX5_finds 3 (Option.none : Option Jvm.ClassFile.FieldType) Q) (hF : x.1.2.2.2.frames = 2 ∧ x.1.2.2.2.locals = 64) (hC : x.2.2.2.2.2 = (fun _ => false)) (hxt : (∀ z ∈ x.2.2.1.2.1.exceptionTable.toList, False)) (h2 : Snd x 2 X2) (h53 : Snd x 53 X53) (h63 : Snd x 63 X63) (h135 : Snd x 135 X135) : Snd x 0 (bX5_finds_0 E Q X2 X53 X63 X135) := by
  unfold bX5_finds_0
  refine s_iconst (by decide) G.b dX5_finds_0 ?_
  refine s_istore_n rfl G.b (by rw [G.nl]; decide) (fun _ _ => by rw [hC]) dX5_finds_1 ?_
  exact h2
set_option maxHeartbeats 4000000 in
theorem mX5_finds {l : Launch} {D : DE} {s0 : State} {E : Nat → Value} (EN : EV l D s0 E) : rMet l D s0 yX5_finds (ws_ yX5_finds cX5_finds 3 (Option.none : Option Jvm.ClassFile.FieldType)) 2 64 (wX5_finds E) := by
  refine body_met (fun _ => false) EN.kn (fun w h => h) (by decide +kernel) rfl (fun av h Q hw => ?_) ?_
  · unfold wX5_finds at hw
    split at hw
    · exact Nat.le_of_ble_eq_true rfl
    · exact hw.elim
  · intro p e s m below meth c av h Q hxt G hw
    unfold wX5_finds at hw
    split at hw
    · exact tX5_finds_0 EN G ⟨rfl, rfl⟩ rfl hxt (fun _ _ _ h => h) (fun _ _ _ h => h) (fun _ _ _ h => h) (fun _ _ _ h => h) _ _ _ (hw (AW _ 2) (AW _ 53) (AW _ 63) (AW _ 135) (tX5_finds_2 EN G ⟨rfl, rfl⟩ rfl hxt (fun _ _ _ h => h) (fun _ _ _ h => h) (fun _ _ _ h => h) (fun _ _ _ h => h)) (tX5_finds_53 EN G ⟨rfl, rfl⟩ rfl hxt (fun _ _ _ h => h) (fun _ _ _ h => h) (fun _ _ _ h => h) (fun _ _ _ h => h)) (tX5_finds_63 EN G ⟨rfl, rfl⟩ rfl hxt (fun _ _ _ h => h) (fun _ _ _ h => h) (fun _ _ _ h => h) (fun _ _ _ h => h)) (tX5_finds_135 EN G ⟨rfl, rfl⟩ rfl hxt (fun _ _ _ h => h) (fun _ _ _ h => h) (fun _ _ _ h => h) (fun _ _ _ h => h)))
    · exact hw.elim
/-! ChantRulesModel.laysRule(I)V (X5_laysRule) -/
def bX5_laysRule_128 (E : Nat → Value) (Q : Rs → HS → Prop) (X19 X51 : Ct) : Ct :=
  o_return Q
def bX5_laysRule_122 (E : Nat → Value) (Q : Rs → HS → Prop) (X19 X51 : Ct) : Ct :=
  o_iinc 2 1 <|
  X51
def bX5_laysRule_51 (E : Nat → Value) (Q : Rs → HS → Prop) (X19 X51 : Ct) : Ct :=
  o_iload 2 <|
  o_aload 0 <|
  o_getf [8] 7 <|
  o_push (.int 2) <|
  o_iload 1 <|
  o_iadd <|
  o_ald [100] <|
  o_icmpge (bX5_laysRule_128 E Q X19 X51) <|
  o_aload 0 <|
  o_aload 0 <|
  o_getf [8] 7 <|
  o_iload 1 <|
  o_iload 2 <|
  o_push (.int 0) <|
  o_call 3 (wX5_of E) (x_out Q) <|
  o_ald [100] <|
  o_aload 0 <|
  o_getf [8] 7 <|
  o_iload 1 <|
  o_iload 2 <|
  o_push (.int 1) <|
  o_call 3 (wX5_of E) (x_out Q) <|
  o_ald [100] <|
  o_aload 0 <|
  o_getf [8] 7 <|
  o_iload 1 <|
  o_iload 2 <|
  o_push (.int 2) <|
  o_call 3 (wX5_of E) (x_out Q) <|
  o_ald [100] <|
  o_aload 0 <|
  o_getf [8] 7 <|
  o_iload 1 <|
  o_iload 2 <|
  o_push (.int 3) <|
  o_call 3 (wX5_of E) (x_out Q) <|
  o_ald [100] <|
  o_aload 0 <|
  o_getf [8] 7 <|
  o_iload 1 <|
  o_iload 2 <|
  o_push (.int 4) <|
  o_call 3 (wX5_of E) (x_out Q) <|
  o_ald [100] <|
  o_callV [8] 6 (wX5_lay E) (x_out Q) <|
  (bX5_laysRule_122 E Q X19 X51)
def bX5_laysRule_49 (E : Nat → Value) (Q : Rs → HS → Prop) (X19 X51 : Ct) : Ct :=
  o_push (.int 0) <|
  o_istore 2 <|
  X51
def bX5_laysRule_19 (E : Nat → Value) (Q : Rs → HS → Prop) (X19 X51 : Ct) : Ct :=
  o_iload 2 <|
  o_aload 0 <|
  o_getf [8] 18 <|
  o_icmpge (bX5_laysRule_49 E Q X19 X51) <|
  o_aload 0 <|
  o_getf [8] 16 <|
  o_iload 2 <|
  o_aload 0 <|
  o_getf [8] 7 <|
  o_iload 1 <|
  o_iload 2 <|
  o_call 2 (wX5_endAt E) (x_out Q) <|
  o_ald [100] <|
  o_ast [(100, .int)] <|
  o_iinc 2 1 <|
  X19
def bX5_laysRule_0 (E : Nat → Value) (Q : Rs → HS → Prop) (X19 X51 : Ct) : Ct :=
  o_aload 0 <|
  o_push (.int 0) <|
  o_putf [8] 17 .int <|
  o_aload 0 <|
  o_aload 0 <|
  o_getf [8] 7 <|
  o_push (.int 0) <|
  o_iload 1 <|
  o_iadd <|
  o_ald [100] <|
  o_putf [8] 18 .int <|
  o_push (.int 0) <|
  o_istore 2 <|
  X19
def wX5_laysRule (E : Nat → Value) : Wp := fun av h Q => match av with
  | [a0, a1] => ∀ X19 X51 : Ct, (∀ ls st h, bX5_laysRule_19 E Q X19 X51 ls st h → X19 ls st h) → (∀ ls st h, bX5_laysRule_51 E Q X19 X51 ls st h → X51 ls st h) → bX5_laysRule_0 E Q X19 X51 [a0, a1, jk] [] h
  | _ => False
set_option maxHeartbeats 4000000 in
theorem tX5_laysRule_128 {x : CX} {E : Nat → Value} {Q : Rs → HS → Prop} {X19 X51 : Ct} (EN : EX x E) (G : Gd x cX5_laysRule "ChantRulesModel" yX5_laysRule 3 (Option.none : Option Jvm.ClassFile.FieldType) Q) (hF : x.1.2.2.2.frames = 3 ∧ x.1.2.2.2.locals = 89) (hC : x.2.2.2.2.2 = (fun _ => false)) (hxt : (∀ z ∈ x.2.2.1.2.1.exceptionTable.toList, False)) (h19 : Snd x 19 X19) (h51 : Snd x 51 X51) : Snd x 128 (bX5_laysRule_128 E Q X19 X51) := by
  unfold bX5_laysRule_128
  exact s_return G dX5_laysRule_128
set_option maxHeartbeats 4000000 in
theorem tX5_laysRule_122 {x : CX} {E : Nat → Value} {Q : Rs → HS → Prop} {X19 X51 : Ct} (EN : EX x E) (G : Gd x cX5_laysRule "ChantRulesModel" yX5_laysRule 3 (Option.none : Option Jvm.ClassFile.FieldType) Q) (hF : x.1.2.2.2.frames = 3 ∧ x.1.2.2.2.locals = 89) (hC : x.2.2.2.2.2 = (fun _ => false)) (hxt : (∀ z ∈ x.2.2.1.2.1.exceptionTable.toList, False)) (h19 : Snd x 19 X19) (h51 : Snd x 51 X51) : Snd x 122 (bX5_laysRule_122 E Q X19 X51) := by
  unfold bX5_laysRule_122
  refine s_iinc (by decide) G.b (by rw [G.nl]; decide) (fun _ _ => by rw [hC]) dX5_laysRule_122 ?_
  exact s_goto (tgt := 51) G.b dX5_laysRule_125 (by decide) h51
set_option maxHeartbeats 4000000 in
theorem tX5_laysRule_51 {x : CX} {E : Nat → Value} {Q : Rs → HS → Prop} {X19 X51 : Ct} (EN : EX x E) (G : Gd x cX5_laysRule "ChantRulesModel" yX5_laysRule 3 (Option.none : Option Jvm.ClassFile.FieldType) Q) (hF : x.1.2.2.2.frames = 3 ∧ x.1.2.2.2.locals = 89) (hC : x.2.2.2.2.2 = (fun _ => false)) (hxt : (∀ z ∈ x.2.2.1.2.1.exceptionTable.toList, False)) (h19 : Snd x 19 X19) (h51 : Snd x 51 X51) : Snd x 51 (bX5_laysRule_51 E Q X19 X51) := by
  unfold bX5_laysRule_51
  refine s_iload_n rfl G.b dX5_laysRule_51 ?_
  refine s_aload_n rfl G.b dX5_laysRule_52 ?_
  refine s_getf G.b G.ow G.kn (G.hts _ q1910) (fun _ h => h) fa_73 dX5_laysRule_53 ?_
  refine s_iconst (by decide) G.b dX5_laysRule_56 ?_
  refine s_iload_n rfl G.b dX5_laysRule_57 ?_
  refine s_iadd G.b dX5_laysRule_58 ?_
  refine s_iald G.b G.kn dX5_laysRule_59 ?_
  refine s_icmpge (tgt := 128) G.b dX5_laysRule_60 (by decide) (tX5_laysRule_128 EN G hF hC hxt h19 h51) ?_
  refine s_aload_n rfl G.b dX5_laysRule_63 ?_
  refine s_aload_n rfl G.b dX5_laysRule_64 ?_
  refine s_getf G.b G.ow G.kn (G.hts _ q1910) (fun _ h => h) fa_73 dX5_laysRule_65 ?_
  refine s_iload_n rfl G.b dX5_laysRule_68 ?_
  refine s_iload_n rfl G.b dX5_laysRule_69 ?_
  refine s_iconst (by decide) G.b dX5_laysRule_70 ?_
  refine s_callS G (mX5_of EN) q2079 q2080 q90 q2081 nmk_248 (rm_of hF (Nat.le_of_ble_eq_true rfl) (Nat.le_of_ble_eq_true rfl)) dX5_laysRule_71 ?_ (sx_out G (fun z hz => (hxt z hz).elim))
  refine s_iald G.b G.kn dX5_laysRule_74 ?_
  refine s_aload_n rfl G.b dX5_laysRule_75 ?_
  refine s_getf G.b G.ow G.kn (G.hts _ q1910) (fun _ h => h) fa_73 dX5_laysRule_76 ?_
  refine s_iload_n rfl G.b dX5_laysRule_79 ?_
  refine s_iload_n rfl G.b dX5_laysRule_80 ?_
  refine s_iconst (by decide) G.b dX5_laysRule_81 ?_
  refine s_callS G (mX5_of EN) q2079 q2080 q90 q2081 nmk_248 (rm_of hF (Nat.le_of_ble_eq_true rfl) (Nat.le_of_ble_eq_true rfl)) dX5_laysRule_82 ?_ (sx_out G (fun z hz => (hxt z hz).elim))
  refine s_iald G.b G.kn dX5_laysRule_85 ?_
  refine s_aload_n rfl G.b dX5_laysRule_86 ?_
  refine s_getf G.b G.ow G.kn (G.hts _ q1910) (fun _ h => h) fa_73 dX5_laysRule_87 ?_
  refine s_iload_n rfl G.b dX5_laysRule_90 ?_
  refine s_iload_n rfl G.b dX5_laysRule_91 ?_
  refine s_iconst (by decide) G.b dX5_laysRule_92 ?_
  refine s_callS G (mX5_of EN) q2079 q2080 q90 q2081 nmk_248 (rm_of hF (Nat.le_of_ble_eq_true rfl) (Nat.le_of_ble_eq_true rfl)) dX5_laysRule_93 ?_ (sx_out G (fun z hz => (hxt z hz).elim))
  refine s_iald G.b G.kn dX5_laysRule_96 ?_
  refine s_aload_n rfl G.b dX5_laysRule_97 ?_
  refine s_getf G.b G.ow G.kn (G.hts _ q1910) (fun _ h => h) fa_73 dX5_laysRule_98 ?_
  refine s_iload_n rfl G.b dX5_laysRule_101 ?_
  refine s_iload_n rfl G.b dX5_laysRule_102 ?_
  refine s_iconst (by decide) G.b dX5_laysRule_103 ?_
  refine s_callS G (mX5_of EN) q2079 q2080 q90 q2081 nmk_248 (rm_of hF (Nat.le_of_ble_eq_true rfl) (Nat.le_of_ble_eq_true rfl)) dX5_laysRule_104 ?_ (sx_out G (fun z hz => (hxt z hz).elim))
  refine s_iald G.b G.kn dX5_laysRule_107 ?_
  refine s_aload_n rfl G.b dX5_laysRule_108 ?_
  refine s_getf G.b G.ow G.kn (G.hts _ q1910) (fun _ h => h) fa_73 dX5_laysRule_109 ?_
  refine s_iload_n rfl G.b dX5_laysRule_112 ?_
  refine s_iload_n rfl G.b dX5_laysRule_113 ?_
  refine s_iconst (by decide) G.b dX5_laysRule_114 ?_
  refine s_callS G (mX5_of EN) q2079 q2080 q90 q2081 nmk_248 (rm_of hF (Nat.le_of_ble_eq_true rfl) (Nat.le_of_ble_eq_true rfl)) dX5_laysRule_115 ?_ (sx_out G (fun z hz => (hxt z hz).elim))
  refine s_iald G.b G.kn dX5_laysRule_118 ?_
  refine s_callV G (mX5_lay EN) q2122 q2124 (sel_cons (r := (RX5, TX5, 37)) (by decide) rfl qs47 (sel_nil)) q90 q2125 nmk_262 (rm_of hF (Nat.le_of_ble_eq_true rfl) (Nat.le_of_ble_eq_true rfl)) dX5_laysRule_119 ?_ (sx_out G (fun z hz => (hxt z hz).elim))
  exact (tX5_laysRule_122 EN G hF hC hxt h19 h51)
set_option maxHeartbeats 4000000 in
theorem tX5_laysRule_49 {x : CX} {E : Nat → Value} {Q : Rs → HS → Prop} {X19 X51 : Ct} (EN : EX x E) (G : Gd x cX5_laysRule "ChantRulesModel" yX5_laysRule 3 (Option.none : Option Jvm.ClassFile.FieldType) Q) (hF : x.1.2.2.2.frames = 3 ∧ x.1.2.2.2.locals = 89) (hC : x.2.2.2.2.2 = (fun _ => false)) (hxt : (∀ z ∈ x.2.2.1.2.1.exceptionTable.toList, False)) (h19 : Snd x 19 X19) (h51 : Snd x 51 X51) : Snd x 49 (bX5_laysRule_49 E Q X19 X51) := by
  unfold bX5_laysRule_49
  refine s_iconst (by decide) G.b dX5_laysRule_49 ?_
  refine s_istore_n rfl G.b (by rw [G.nl]; decide) (fun _ _ => by rw [hC]) dX5_laysRule_50 ?_
  exact h51
set_option maxHeartbeats 4000000 in
theorem tX5_laysRule_19 {x : CX} {E : Nat → Value} {Q : Rs → HS → Prop} {X19 X51 : Ct} (EN : EX x E) (G : Gd x cX5_laysRule "ChantRulesModel" yX5_laysRule 3 (Option.none : Option Jvm.ClassFile.FieldType) Q) (hF : x.1.2.2.2.frames = 3 ∧ x.1.2.2.2.locals = 89) (hC : x.2.2.2.2.2 = (fun _ => false)) (hxt : (∀ z ∈ x.2.2.1.2.1.exceptionTable.toList, False)) (h19 : Snd x 19 X19) (h51 : Snd x 51 X51) : Snd x 19 (bX5_laysRule_19 E Q X19 X51) := by
  unfold bX5_laysRule_19
  refine s_iload_n rfl G.b dX5_laysRule_19 ?_
  refine s_aload_n rfl G.b dX5_laysRule_20 ?_
  refine s_getf G.b G.ow G.kn (G.hts _ q1921) (fun _ h => h) fa_100 dX5_laysRule_21 ?_
  refine s_icmpge (tgt := 49) G.b dX5_laysRule_24 (by decide) (tX5_laysRule_49 EN G hF hC hxt h19 h51) ?_
  refine s_aload_n rfl G.b dX5_laysRule_27 ?_
  refine s_getf G.b G.ow G.kn (G.hts _ q1919) (fun _ h => h) fa_92 dX5_laysRule_28 ?_
  refine s_iload_n rfl G.b dX5_laysRule_31 ?_
  refine s_aload_n rfl G.b dX5_laysRule_32 ?_
  refine s_getf G.b G.ow G.kn (G.hts _ q1910) (fun _ h => h) fa_73 dX5_laysRule_33 ?_
  refine s_iload_n rfl G.b dX5_laysRule_36 ?_
  refine s_iload_n rfl G.b dX5_laysRule_37 ?_
  refine s_callS G (mX5_endAt EN) q2044 q2045 q90 q2046 nmk_247 (rm_of hF (Nat.le_of_ble_eq_true rfl) (Nat.le_of_ble_eq_true rfl)) dX5_laysRule_38 ?_ (sx_out G (fun z hz => (hxt z hz).elim))
  refine s_iald G.b G.kn dX5_laysRule_41 ?_
  refine s_iast G.b G.kn dX5_laysRule_42 ?_
  refine s_iinc (by decide) G.b (by rw [G.nl]; decide) (fun _ _ => by rw [hC]) dX5_laysRule_43 ?_
  exact s_goto (tgt := 19) G.b dX5_laysRule_46 (by decide) h19
set_option maxHeartbeats 4000000 in
theorem tX5_laysRule_0 {x : CX} {E : Nat → Value} {Q : Rs → HS → Prop} {X19 X51 : Ct} (EN : EX x E) (G : Gd x cX5_laysRule "ChantRulesModel" yX5_laysRule 3 (Option.none : Option Jvm.ClassFile.FieldType) Q) (hF : x.1.2.2.2.frames = 3 ∧ x.1.2.2.2.locals = 89) (hC : x.2.2.2.2.2 = (fun _ => false)) (hxt : (∀ z ∈ x.2.2.1.2.1.exceptionTable.toList, False)) (h19 : Snd x 19 X19) (h51 : Snd x 51 X51) : Snd x 0 (bX5_laysRule_0 E Q X19 X51) := by
  unfold bX5_laysRule_0
  refine s_aload_n rfl G.b dX5_laysRule_0 ?_
  refine s_iconst (by decide) G.b dX5_laysRule_1 ?_
  refine s_putf G.b G.ow G.kn (G.hts _ q1920) (fun _ h => h) fa_99 (la_cons (r := (RX5, TX5, 37)) G.hts (by decide) rfl q1974 (la_nil)) (by decide +kernel) dX5_laysRule_2 ?_
  refine s_aload_n rfl G.b dX5_laysRule_5 ?_
  refine s_aload_n rfl G.b dX5_laysRule_6 ?_
  refine s_getf G.b G.ow G.kn (G.hts _ q1910) (fun _ h => h) fa_73 dX5_laysRule_7 ?_
  refine s_iconst (by decide) G.b dX5_laysRule_10 ?_
  refine s_iload_n rfl G.b dX5_laysRule_11 ?_
  refine s_iadd G.b dX5_laysRule_12 ?_
  refine s_iald G.b G.kn dX5_laysRule_13 ?_
  refine s_putf G.b G.ow G.kn (G.hts _ q1921) (fun _ h => h) fa_100 (la_cons (r := (RX5, TX5, 37)) G.hts (by decide) rfl q1976 (la_nil)) (by decide +kernel) dX5_laysRule_14 ?_
  refine s_iconst (by decide) G.b dX5_laysRule_17 ?_
  refine s_istore_n rfl G.b (by rw [G.nl]; decide) (fun _ _ => by rw [hC]) dX5_laysRule_18 ?_
  exact h19
set_option maxHeartbeats 4000000 in
theorem mX5_laysRule {l : Launch} {D : DE} {s0 : State} {E : Nat → Value} (EN : EV l D s0 E) : rMet l D s0 yX5_laysRule (ws_ yX5_laysRule cX5_laysRule 3 (Option.none : Option Jvm.ClassFile.FieldType)) 3 89 (wX5_laysRule E) := by
  refine body_met (fun _ => false) EN.kn (fun w h => h) (by decide +kernel) rfl (fun av h Q hw => ?_) ?_
  · unfold wX5_laysRule at hw
    split at hw
    · exact Nat.le_of_ble_eq_true rfl
    · exact hw.elim
  · intro p e s m below meth c av h Q hxt G hw
    unfold wX5_laysRule at hw
    split at hw
    · exact tX5_laysRule_0 EN G ⟨rfl, rfl⟩ rfl hxt (fun _ _ _ h => h) (fun _ _ _ h => h) _ _ _ (hw (AW _ 19) (AW _ 51) (tX5_laysRule_19 EN G ⟨rfl, rfl⟩ rfl hxt (fun _ _ _ h => h) (fun _ _ _ h => h)) (tX5_laysRule_51 EN G ⟨rfl, rfl⟩ rfl hxt (fun _ _ _ h => h) (fun _ _ _ h => h)))
    · exact hw.elim
/-! ChantRulesModel.breathes(I)I (X5_breathes) -/
theorem nmk_273 : nm_ok yX5_byBreaths 2 := ⟨by decide +kernel, by decide +kernel, by decide +kernel⟩
theorem nmk_274 : nm_ok yX5_laysRule 1 := ⟨by decide +kernel, by decide +kernel, by decide +kernel⟩
theorem nmk_275 : nm_ok yX5_finds 0 := ⟨by decide +kernel, by decide +kernel, by decide +kernel⟩
def bX5_breathes_78 (E : Nat → Value) (Q : Rs → HS → Prop) (X23 : Ct) : Ct :=
  o_ireturn .int Q
def bX5_breathes_77 (E : Nat → Value) (Q : Rs → HS → Prop) (X23 : Ct) : Ct :=
  o_push (.int 0) <|
  (bX5_breathes_78 E Q X23)
def bX5_breathes_69 (E : Nat → Value) (Q : Rs → HS → Prop) (X23 : Ct) : Ct :=
  o_iload 2 <|
  o_ifeq (bX5_breathes_77 E Q X23) <|
  o_push (.int 1) <|
  (bX5_breathes_78 E Q X23)
def bX5_breathes_61 (E : Nat → Value) (Q : Rs → HS → Prop) (X23 : Ct) : Ct :=
  o_ior <|
  o_istore 2 <|
  o_iinc 3 1 <|
  X23
def bX5_breathes_60 (E : Nat → Value) (Q : Rs → HS → Prop) (X23 : Ct) : Ct :=
  o_push (.int 0) <|
  (bX5_breathes_61 E Q X23)
def bX5_breathes_23 (E : Nat → Value) (Q : Rs → HS → Prop) (X23 : Ct) : Ct :=
  o_iload 3 <|
  o_aload 0 <|
  o_getf [8] 18 <|
  o_icmpge (bX5_breathes_69 E Q X23) <|
  o_iload 2 <|
  o_aload 0 <|
  o_getf [8] 20 <|
  o_iload 3 <|
  o_ald [100] <|
  o_push (.int 1) <|
  o_icmpne (bX5_breathes_60 E Q X23) <|
  o_aload 0 <|
  o_iload 3 <|
  o_push (.int 0) <|
  o_callV [8] 3 (wX5_byBreaths E) (x_out Q) <|
  o_iload 3 <|
  o_ishr <|
  o_push (.int 1) <|
  o_iand <|
  o_push (.int 1) <|
  o_icmpne (bX5_breathes_60 E Q X23) <|
  o_push (.int 1) <|
  (bX5_breathes_61 E Q X23)
def bX5_breathes_10 (E : Nat → Value) (Q : Rs → HS → Prop) (X23 : Ct) : Ct :=
  o_aload 0 <|
  o_iload 1 <|
  o_callV [8] 2 (wX5_laysRule E) (x_out Q) <|
  o_aload 0 <|
  o_callV [8] 1 (wX5_finds E) (x_out Q) <|
  o_push (.int 0) <|
  o_istore 2 <|
  o_push (.int 0) <|
  o_istore 3 <|
  X23
def bX5_breathes_0 (E : Nat → Value) (Q : Rs → HS → Prop) (X23 : Ct) : Ct :=
  o_iload 1 <|
  o_call 1 (wX5_isRule E) (x_out Q) <|
  o_ifne (bX5_breathes_10 E Q X23) <|
  o_push (.int (-11)) <|
  o_ireturn .int Q
def wX5_breathes (E : Nat → Value) : Wp := fun av h Q => match av with
  | [a0, a1] => ∀ X23 : Ct, (∀ ls st h, bX5_breathes_23 E Q X23 ls st h → X23 ls st h) → bX5_breathes_0 E Q X23 [a0, a1, jk, jk] [] h
  | _ => False
set_option maxHeartbeats 4000000 in
theorem tX5_breathes_78 {x : CX} {E : Nat → Value} {Q : Rs → HS → Prop} {X23 : Ct} (EN : EX x E) (G : Gd x cX5_breathes "ChantRulesModel" yX5_breathes 4 (Option.some Jvm.ClassFile.FieldType.int) Q) (hF : x.1.2.2.2.frames = 4 ∧ x.1.2.2.2.locals = 111) (hC : x.2.2.2.2.2 = (fun _ => false)) (hxt : (∀ z ∈ x.2.2.1.2.1.exceptionTable.toList, False)) (h23 : Snd x 23 X23) : Snd x 78 (bX5_breathes_78 E Q X23) := by
  unfold bX5_breathes_78
  exact s_ireturn G dX5_breathes_78
set_option maxHeartbeats 4000000 in
theorem tX5_breathes_77 {x : CX} {E : Nat → Value} {Q : Rs → HS → Prop} {X23 : Ct} (EN : EX x E) (G : Gd x cX5_breathes "ChantRulesModel" yX5_breathes 4 (Option.some Jvm.ClassFile.FieldType.int) Q) (hF : x.1.2.2.2.frames = 4 ∧ x.1.2.2.2.locals = 111) (hC : x.2.2.2.2.2 = (fun _ => false)) (hxt : (∀ z ∈ x.2.2.1.2.1.exceptionTable.toList, False)) (h23 : Snd x 23 X23) : Snd x 77 (bX5_breathes_77 E Q X23) := by
  unfold bX5_breathes_77
  refine s_iconst (by decide) G.b dX5_breathes_77 ?_
  exact (tX5_breathes_78 EN G hF hC hxt h23)
set_option maxHeartbeats 4000000 in
theorem tX5_breathes_69 {x : CX} {E : Nat → Value} {Q : Rs → HS → Prop} {X23 : Ct} (EN : EX x E) (G : Gd x cX5_breathes "ChantRulesModel" yX5_breathes 4 (Option.some Jvm.ClassFile.FieldType.int) Q) (hF : x.1.2.2.2.frames = 4 ∧ x.1.2.2.2.locals = 111) (hC : x.2.2.2.2.2 = (fun _ => false)) (hxt : (∀ z ∈ x.2.2.1.2.1.exceptionTable.toList, False)) (h23 : Snd x 23 X23) : Snd x 69 (bX5_breathes_69 E Q X23) := by
  unfold bX5_breathes_69
  refine s_iload_n rfl G.b dX5_breathes_69 ?_
  refine s_ifeq (tgt := 77) G.b dX5_breathes_70 (by decide) (tX5_breathes_77 EN G hF hC hxt h23) ?_
  refine s_iconst (by decide) G.b dX5_breathes_73 ?_
  exact s_goto (tgt := 78) G.b dX5_breathes_74 (by decide) (tX5_breathes_78 EN G hF hC hxt h23)
set_option maxHeartbeats 4000000 in
theorem tX5_breathes_61 {x : CX} {E : Nat → Value} {Q : Rs → HS → Prop} {X23 : Ct} (EN : EX x E) (G : Gd x cX5_breathes "ChantRulesModel" yX5_breathes 4 (Option.some Jvm.ClassFile.FieldType.int) Q) (hF : x.1.2.2.2.frames = 4 ∧ x.1.2.2.2.locals = 111) (hC : x.2.2.2.2.2 = (fun _ => false)) (hxt : (∀ z ∈ x.2.2.1.2.1.exceptionTable.toList, False)) (h23 : Snd x 23 X23) : Snd x 61 (bX5_breathes_61 E Q X23) := by
  unfold bX5_breathes_61
  refine s_ior G.b dX5_breathes_61 ?_
  refine s_istore_n rfl G.b (by rw [G.nl]; decide) (fun _ _ => by rw [hC]) dX5_breathes_62 ?_
  refine s_iinc (by decide) G.b (by rw [G.nl]; decide) (fun _ _ => by rw [hC]) dX5_breathes_63 ?_
  exact s_goto (tgt := 23) G.b dX5_breathes_66 (by decide) h23
set_option maxHeartbeats 4000000 in
theorem tX5_breathes_60 {x : CX} {E : Nat → Value} {Q : Rs → HS → Prop} {X23 : Ct} (EN : EX x E) (G : Gd x cX5_breathes "ChantRulesModel" yX5_breathes 4 (Option.some Jvm.ClassFile.FieldType.int) Q) (hF : x.1.2.2.2.frames = 4 ∧ x.1.2.2.2.locals = 111) (hC : x.2.2.2.2.2 = (fun _ => false)) (hxt : (∀ z ∈ x.2.2.1.2.1.exceptionTable.toList, False)) (h23 : Snd x 23 X23) : Snd x 60 (bX5_breathes_60 E Q X23) := by
  unfold bX5_breathes_60
  refine s_iconst (by decide) G.b dX5_breathes_60 ?_
  exact (tX5_breathes_61 EN G hF hC hxt h23)
set_option maxHeartbeats 4000000 in
theorem tX5_breathes_23 {x : CX} {E : Nat → Value} {Q : Rs → HS → Prop} {X23 : Ct} (EN : EX x E) (G : Gd x cX5_breathes "ChantRulesModel" yX5_breathes 4 (Option.some Jvm.ClassFile.FieldType.int) Q) (hF : x.1.2.2.2.frames = 4 ∧ x.1.2.2.2.locals = 111) (hC : x.2.2.2.2.2 = (fun _ => false)) (hxt : (∀ z ∈ x.2.2.1.2.1.exceptionTable.toList, False)) (h23 : Snd x 23 X23) : Snd x 23 (bX5_breathes_23 E Q X23) := by
  unfold bX5_breathes_23
  refine s_iload_n rfl G.b dX5_breathes_23 ?_
  refine s_aload_n rfl G.b dX5_breathes_24 ?_
  refine s_getf G.b G.ow G.kn (G.hts _ q1921) (fun _ h => h) fa_100 dX5_breathes_25 ?_
  refine s_icmpge (tgt := 69) G.b dX5_breathes_28 (by decide) (tX5_breathes_69 EN G hF hC hxt h23) ?_
  refine s_iload_n rfl G.b dX5_breathes_31 ?_
  refine s_aload_n rfl G.b dX5_breathes_32 ?_
  refine s_getf G.b G.ow G.kn (G.hts _ q1923) (fun _ h => h) fa_75 dX5_breathes_33 ?_
  refine s_iload_n rfl G.b dX5_breathes_36 ?_
  refine s_iald G.b G.kn dX5_breathes_37 ?_
  refine s_iconst (by decide) G.b dX5_breathes_38 ?_
  refine s_icmpne (tgt := 60) G.b dX5_breathes_39 (by decide) (tX5_breathes_60 EN G hF hC hxt h23) ?_
  refine s_aload_n rfl G.b dX5_breathes_42 ?_
  refine s_iload_n rfl G.b dX5_breathes_43 ?_
  refine s_iconst (by decide) G.b dX5_breathes_44 ?_
  refine s_callV G (mX5_byBreaths EN) q2134 q2136 (sel_cons (r := (RX5, TX5, 37)) (by decide) rfl qs50 (sel_nil)) q90 q2137 nmk_273 (rm_of hF (Nat.le_of_ble_eq_true rfl) (Nat.le_of_ble_eq_true rfl)) dX5_breathes_45 ?_ (sx_out G (fun z hz => (hxt z hz).elim))
  refine s_iload_n rfl G.b dX5_breathes_48 ?_
  refine s_ishr G.b dX5_breathes_49 ?_
  refine s_iconst (by decide) G.b dX5_breathes_50 ?_
  refine s_iand G.b dX5_breathes_51 ?_
  refine s_iconst (by decide) G.b dX5_breathes_52 ?_
  refine s_icmpne (tgt := 60) G.b dX5_breathes_53 (by decide) (tX5_breathes_60 EN G hF hC hxt h23) ?_
  refine s_iconst (by decide) G.b dX5_breathes_56 ?_
  exact s_goto (tgt := 61) G.b dX5_breathes_57 (by decide) (tX5_breathes_61 EN G hF hC hxt h23)
set_option maxHeartbeats 4000000 in
theorem tX5_breathes_10 {x : CX} {E : Nat → Value} {Q : Rs → HS → Prop} {X23 : Ct} (EN : EX x E) (G : Gd x cX5_breathes "ChantRulesModel" yX5_breathes 4 (Option.some Jvm.ClassFile.FieldType.int) Q) (hF : x.1.2.2.2.frames = 4 ∧ x.1.2.2.2.locals = 111) (hC : x.2.2.2.2.2 = (fun _ => false)) (hxt : (∀ z ∈ x.2.2.1.2.1.exceptionTable.toList, False)) (h23 : Snd x 23 X23) : Snd x 10 (bX5_breathes_10 E Q X23) := by
  unfold bX5_breathes_10
  refine s_aload_n rfl G.b dX5_breathes_10 ?_
  refine s_iload_n rfl G.b dX5_breathes_11 ?_
  refine s_callV G (mX5_laysRule EN) q2118 q2120 (sel_cons (r := (RX5, TX5, 37)) (by decide) rfl qs46 (sel_nil)) q90 q2121 nmk_274 (rm_of hF (Nat.le_of_ble_eq_true rfl) (Nat.le_of_ble_eq_true rfl)) dX5_breathes_12 ?_ (sx_out G (fun z hz => (hxt z hz).elim))
  refine s_aload_n rfl G.b dX5_breathes_15 ?_
  refine s_callV G (mX5_finds EN) q2126 q2128 (sel_cons (r := (RX5, TX5, 37)) (by decide) rfl qs48 (sel_nil)) q90 q2129 nmk_275 (rm_of hF (Nat.le_of_ble_eq_true rfl) (Nat.le_of_ble_eq_true rfl)) dX5_breathes_16 ?_ (sx_out G (fun z hz => (hxt z hz).elim))
  refine s_iconst (by decide) G.b dX5_breathes_19 ?_
  refine s_istore_n rfl G.b (by rw [G.nl]; decide) (fun _ _ => by rw [hC]) dX5_breathes_20 ?_
  refine s_iconst (by decide) G.b dX5_breathes_21 ?_
  refine s_istore_n rfl G.b (by rw [G.nl]; decide) (fun _ _ => by rw [hC]) dX5_breathes_22 ?_
  exact h23
set_option maxHeartbeats 4000000 in
theorem tX5_breathes_0 {x : CX} {E : Nat → Value} {Q : Rs → HS → Prop} {X23 : Ct} (EN : EX x E) (G : Gd x cX5_breathes "ChantRulesModel" yX5_breathes 4 (Option.some Jvm.ClassFile.FieldType.int) Q) (hF : x.1.2.2.2.frames = 4 ∧ x.1.2.2.2.locals = 111) (hC : x.2.2.2.2.2 = (fun _ => false)) (hxt : (∀ z ∈ x.2.2.1.2.1.exceptionTable.toList, False)) (h23 : Snd x 23 X23) : Snd x 0 (bX5_breathes_0 E Q X23) := by
  unfold bX5_breathes_0
  refine s_iload_n rfl G.b dX5_breathes_0 ?_
  refine s_callS G (mX5_isRule EN) q2030 q2031 q90 q2032 nmk_253 (rm_of hF (Nat.le_of_ble_eq_true rfl) (Nat.le_of_ble_eq_true rfl)) dX5_breathes_1 ?_ (sx_out G (fun z hz => (hxt z hz).elim))
  refine s_ifne (tgt := 10) G.b dX5_breathes_4 (by decide) (tX5_breathes_10 EN G hF hC hxt h23) ?_
  refine s_bipush (by decide) G.b dX5_breathes_7 ?_
  exact s_ireturn G dX5_breathes_9
set_option maxHeartbeats 4000000 in
theorem mX5_breathes {l : Launch} {D : DE} {s0 : State} {E : Nat → Value} (EN : EV l D s0 E) : rMet l D s0 yX5_breathes (ws_ yX5_breathes cX5_breathes 4 (Option.some Jvm.ClassFile.FieldType.int)) 4 111 (wX5_breathes E) := by
  refine body_met (fun _ => false) EN.kn (fun w h => h) (by decide +kernel) rfl (fun av h Q hw => ?_) ?_
  · unfold wX5_breathes at hw
    split at hw
    · exact Nat.le_of_ble_eq_true rfl
    · exact hw.elim
  · intro p e s m below meth c av h Q hxt G hw
    unfold wX5_breathes at hw
    split at hw
    · exact tX5_breathes_0 EN G ⟨rfl, rfl⟩ rfl hxt (fun _ _ _ h => h) _ _ _ (hw (AW _ 23) (tX5_breathes_23 EN G ⟨rfl, rfl⟩ rfl hxt (fun _ _ _ h => h)))
    · exact hw.elim
/-! ChantRulesModel.character(I)I (X5_character) -/
theorem fa_103 : fieldAt [8] 30 "ChantRulesModel" "lineN" "I" := fa_cons (r := (RX5, TX5, 37)) rfl (by decide) rfl rfl rfl (fa_nil)
def bX5_character_25 (E : Nat → Value) (Q : Rs → HS → Prop) : Ct :=
  o_ireturn .int Q
def bX5_character_23 (E : Nat → Value) (Q : Rs → HS → Prop) : Ct :=
  o_push (.int (-11)) <|
  (bX5_character_25 E Q)
def bX5_character_0 (E : Nat → Value) (Q : Rs → HS → Prop) : Ct :=
  o_iload 1 <|
  o_push (.int 0) <|
  o_aload 0 <|
  o_getf [8] 30 <|
  o_push (.int 1) <|
  o_isub <|
  o_call 3 (wX5_isIn E) (x_out Q) <|
  o_ifeq (bX5_character_23 E Q) <|
  o_aload 0 <|
  o_getf [8] 29 <|
  o_iload 1 <|
  o_ald [100] <|
  (bX5_character_25 E Q)
def wX5_character (E : Nat → Value) : Wp := fun av h Q => match av with
  | [a0, a1] => bX5_character_0 E Q [a0, a1] [] h
  | _ => False
set_option maxHeartbeats 4000000 in
theorem tX5_character_25 {x : CX} {E : Nat → Value} {Q : Rs → HS → Prop} (EN : EX x E) (G : Gd x cX5_character "ChantRulesModel" yX5_character 2 (Option.some Jvm.ClassFile.FieldType.int) Q) (hF : x.1.2.2.2.frames = 3 ∧ x.1.2.2.2.locals = 86) (hC : x.2.2.2.2.2 = (fun _ => false)) (hxt : (∀ z ∈ x.2.2.1.2.1.exceptionTable.toList, False)) : Snd x 25 (bX5_character_25 E Q) := by
  unfold bX5_character_25
  exact s_ireturn G dX5_character_25
set_option maxHeartbeats 4000000 in
theorem tX5_character_23 {x : CX} {E : Nat → Value} {Q : Rs → HS → Prop} (EN : EX x E) (G : Gd x cX5_character "ChantRulesModel" yX5_character 2 (Option.some Jvm.ClassFile.FieldType.int) Q) (hF : x.1.2.2.2.frames = 3 ∧ x.1.2.2.2.locals = 86) (hC : x.2.2.2.2.2 = (fun _ => false)) (hxt : (∀ z ∈ x.2.2.1.2.1.exceptionTable.toList, False)) : Snd x 23 (bX5_character_23 E Q) := by
  unfold bX5_character_23
  refine s_bipush (by decide) G.b dX5_character_23 ?_
  exact (tX5_character_25 EN G hF hC hxt)
set_option maxHeartbeats 4000000 in
theorem tX5_character_0 {x : CX} {E : Nat → Value} {Q : Rs → HS → Prop} (EN : EX x E) (G : Gd x cX5_character "ChantRulesModel" yX5_character 2 (Option.some Jvm.ClassFile.FieldType.int) Q) (hF : x.1.2.2.2.frames = 3 ∧ x.1.2.2.2.locals = 86) (hC : x.2.2.2.2.2 = (fun _ => false)) (hxt : (∀ z ∈ x.2.2.1.2.1.exceptionTable.toList, False)) : Snd x 0 (bX5_character_0 E Q) := by
  unfold bX5_character_0
  refine s_iload_n rfl G.b dX5_character_0 ?_
  refine s_iconst (by decide) G.b dX5_character_1 ?_
  refine s_aload_n rfl G.b dX5_character_2 ?_
  refine s_getf G.b G.ow G.kn (G.hts _ q1933) (fun _ h => h) fa_103 dX5_character_3 ?_
  refine s_iconst (by decide) G.b dX5_character_6 ?_
  refine s_isub G.b dX5_character_7 ?_
  refine s_callS G (mX5_isIn EN) q2033 q2034 q90 q2035 nmk_251 (rm_of hF (Nat.le_of_ble_eq_true rfl) (Nat.le_of_ble_eq_true rfl)) dX5_character_8 ?_ (sx_out G (fun z hz => (hxt z hz).elim))
  refine s_ifeq (tgt := 23) G.b dX5_character_11 (by decide) (tX5_character_23 EN G hF hC hxt) ?_
  refine s_aload_n rfl G.b dX5_character_14 ?_
  refine s_getf G.b G.ow G.kn (G.hts _ q1932) (fun _ h => h) fa_81 dX5_character_15 ?_
  refine s_iload_n rfl G.b dX5_character_18 ?_
  refine s_iald G.b G.kn dX5_character_19 ?_
  exact s_goto (tgt := 25) G.b dX5_character_20 (by decide) (tX5_character_25 EN G hF hC hxt)
set_option maxHeartbeats 4000000 in
theorem mX5_character {l : Launch} {D : DE} {s0 : State} {E : Nat → Value} (EN : EV l D s0 E) : rMet l D s0 yX5_character (ws_ yX5_character cX5_character 2 (Option.some Jvm.ClassFile.FieldType.int)) 3 86 (wX5_character E) := by
  refine body_met (fun _ => false) EN.kn (fun w h => h) (by decide +kernel) rfl (fun av h Q hw => ?_) ?_
  · unfold wX5_character at hw
    split at hw
    · exact Nat.le_of_ble_eq_true rfl
    · exact hw.elim
  · intro p e s m below meth c av h Q hxt G hw
    unfold wX5_character at hw
    split at hw
    · exact tX5_character_0 EN G ⟨rfl, rfl⟩ rfl hxt _ _ _ hw
    · exact hw.elim
/-! ChantRulesModel.leastWay(Z)I (X5_leastWay) -/
def bX5_leastWay_224 (E : Nat → Value) (Q : Rs → HS → Prop) (X2 X34 X44 X154 : Ct) : Ct :=
  o_ireturn .int Q
def bX5_leastWay_223 (E : Nat → Value) (Q : Rs → HS → Prop) (X2 X34 X44 X154 : Ct) : Ct :=
  o_iload 2 <|
  (bX5_leastWay_224 E Q X2 X34 X44 X154)
def bX5_leastWay_213 (E : Nat → Value) (Q : Rs → HS → Prop) (X2 X34 X44 X154 : Ct) : Ct :=
  o_iload 2 <|
  o_push (.int 100000) <|
  o_icmplt (bX5_leastWay_223 E Q X2 X34 X44 X154) <|
  o_push (.int (-1)) <|
  (bX5_leastWay_224 E Q X2 X34 X44 X154)
def bX5_leastWay_206 (E : Nat → Value) (Q : Rs → HS → Prop) (X2 X34 X44 X154 : Ct) : Ct :=
  o_istore 2 <|
  o_iinc 3 1 <|
  X154
def bX5_leastWay_205 (E : Nat → Value) (Q : Rs → HS → Prop) (X2 X34 X44 X154 : Ct) : Ct :=
  o_iload 2 <|
  (bX5_leastWay_206 E Q X2 X34 X44 X154)
def bX5_leastWay_182 (E : Nat → Value) (Q : Rs → HS → Prop) (X2 X34 X44 X154 : Ct) : Ct :=
  o_iadd <|
  o_istore 4 <|
  o_aload 0 <|
  o_getf [8] 16 <|
  o_iload 3 <|
  o_ald [100] <|
  o_iflt (bX5_leastWay_205 E Q X2 X34 X44 X154) <|
  o_iload 4 <|
  o_iload 2 <|
  o_icmpge (bX5_leastWay_205 E Q X2 X34 X44 X154) <|
  o_iload 4 <|
  (bX5_leastWay_206 E Q X2 X34 X44 X154)
def bX5_leastWay_181 (E : Nat → Value) (Q : Rs → HS → Prop) (X2 X34 X44 X154 : Ct) : Ct :=
  o_push (.int 0) <|
  (bX5_leastWay_182 E Q X2 X34 X44 X154)
def bX5_leastWay_154 (E : Nat → Value) (Q : Rs → HS → Prop) (X2 X34 X44 X154 : Ct) : Ct :=
  o_iload 3 <|
  o_aload 0 <|
  o_getf [8] 18 <|
  o_icmpge (bX5_leastWay_213 E Q X2 X34 X44 X154) <|
  o_aload 0 <|
  o_getf [8] 31 <|
  o_iload 3 <|
  o_ald [100] <|
  o_iload 1 <|
  o_ifeq (bX5_leastWay_181 E Q X2 X34 X44 X154) <|
  o_aload 0 <|
  o_getf [8] 16 <|
  o_iload 3 <|
  o_ald [100] <|
  (bX5_leastWay_182 E Q X2 X34 X44 X154)
def bX5_leastWay_149 (E : Nat → Value) (Q : Rs → HS → Prop) (X2 X34 X44 X154 : Ct) : Ct :=
  o_push (.int 100000) <|
  o_istore 2 <|
  o_push (.int 0) <|
  o_istore 3 <|
  X154
def bX5_leastWay_143 (E : Nat → Value) (Q : Rs → HS → Prop) (X2 X34 X44 X154 : Ct) : Ct :=
  o_iinc 2 1 <|
  X34
def bX5_leastWay_136 (E : Nat → Value) (Q : Rs → HS → Prop) (X2 X34 X44 X154 : Ct) : Ct :=
  o_ast [(100, .int)] <|
  o_iinc 3 1 <|
  X44
def bX5_leastWay_125 (E : Nat → Value) (Q : Rs → HS → Prop) (X2 X34 X44 X154 : Ct) : Ct :=
  o_aload 0 <|
  o_getf [8] 31 <|
  o_aload 0 <|
  o_getf [8] 12 <|
  o_iload 3 <|
  o_ald [100] <|
  o_ald [100] <|
  (bX5_leastWay_136 E Q X2 X34 X44 X154)
def bX5_leastWay_91 (E : Nat → Value) (Q : Rs → HS → Prop) (X2 X34 X44 X154 : Ct) : Ct :=
  o_iadd <|
  o_istore 4 <|
  o_aload 0 <|
  o_getf [8] 31 <|
  o_aload 0 <|
  o_getf [8] 12 <|
  o_iload 3 <|
  o_ald [100] <|
  o_iload 4 <|
  o_aload 0 <|
  o_getf [8] 31 <|
  o_aload 0 <|
  o_getf [8] 12 <|
  o_iload 3 <|
  o_ald [100] <|
  o_ald [100] <|
  o_icmpge (bX5_leastWay_125 E Q X2 X34 X44 X154) <|
  o_iload 4 <|
  (bX5_leastWay_136 E Q X2 X34 X44 X154)
def bX5_leastWay_90 (E : Nat → Value) (Q : Rs → HS → Prop) (X2 X34 X44 X154 : Ct) : Ct :=
  o_push (.int 1) <|
  (bX5_leastWay_91 E Q X2 X34 X44 X154)
def bX5_leastWay_76 (E : Nat → Value) (Q : Rs → HS → Prop) (X2 X34 X44 X154 : Ct) : Ct :=
  o_aload 0 <|
  o_getf [8] 13 <|
  o_iload 3 <|
  o_ald [100] <|
  o_push (.int 4) <|
  o_icmpne (bX5_leastWay_90 E Q X2 X34 X44 X154) <|
  o_push (.int 0) <|
  (bX5_leastWay_91 E Q X2 X34 X44 X154)
def bX5_leastWay_44 (E : Nat → Value) (Q : Rs → HS → Prop) (X2 X34 X44 X154 : Ct) : Ct :=
  o_iload 3 <|
  o_aload 0 <|
  o_getf [8] 17 <|
  o_icmpge (bX5_leastWay_143 E Q X2 X34 X44 X154) <|
  o_aload 0 <|
  o_getf [8] 31 <|
  o_aload 0 <|
  o_getf [8] 11 <|
  o_iload 3 <|
  o_ald [100] <|
  o_ald [100] <|
  o_iload 1 <|
  o_ifeq (bX5_leastWay_76 E Q X2 X34 X44 X154) <|
  o_aload 0 <|
  o_getf [8] 15 <|
  o_iload 3 <|
  o_ald [100] <|
  (bX5_leastWay_91 E Q X2 X34 X44 X154)
def bX5_leastWay_34 (E : Nat → Value) (Q : Rs → HS → Prop) (X2 X34 X44 X154 : Ct) : Ct :=
  o_iload 2 <|
  o_aload 0 <|
  o_getf [8] 18 <|
  o_icmpge (bX5_leastWay_149 E Q X2 X34 X44 X154) <|
  o_push (.int 0) <|
  o_istore 3 <|
  X44
def bX5_leastWay_32 (E : Nat → Value) (Q : Rs → HS → Prop) (X2 X34 X44 X154 : Ct) : Ct :=
  o_push (.int 0) <|
  o_istore 2 <|
  X34
def bX5_leastWay_25 (E : Nat → Value) (Q : Rs → HS → Prop) (X2 X34 X44 X154 : Ct) : Ct :=
  o_ast [(100, .int)] <|
  o_iinc 2 1 <|
  X2
def bX5_leastWay_23 (E : Nat → Value) (Q : Rs → HS → Prop) (X2 X34 X44 X154 : Ct) : Ct :=
  o_push (.int 100000) <|
  (bX5_leastWay_25 E Q X2 X34 X44 X154)
def bX5_leastWay_2 (E : Nat → Value) (Q : Rs → HS → Prop) (X2 X34 X44 X154 : Ct) : Ct :=
  o_iload 2 <|
  o_aload 0 <|
  o_getf [8] 18 <|
  o_icmpge (bX5_leastWay_32 E Q X2 X34 X44 X154) <|
  o_aload 0 <|
  o_getf [8] 31 <|
  o_iload 2 <|
  o_iload 2 <|
  o_ifne (bX5_leastWay_23 E Q X2 X34 X44 X154) <|
  o_push (.int 0) <|
  (bX5_leastWay_25 E Q X2 X34 X44 X154)
def bX5_leastWay_0 (E : Nat → Value) (Q : Rs → HS → Prop) (X2 X34 X44 X154 : Ct) : Ct :=
  o_push (.int 0) <|
  o_istore 2 <|
  X2
def wX5_leastWay (E : Nat → Value) : Wp := fun av h Q => match av with
  | [a0, a1] => ∀ X2 X34 X44 X154 : Ct, (∀ ls st h, bX5_leastWay_2 E Q X2 X34 X44 X154 ls st h → X2 ls st h) → (∀ ls st h, bX5_leastWay_34 E Q X2 X34 X44 X154 ls st h → X34 ls st h) → (∀ ls st h, bX5_leastWay_44 E Q X2 X34 X44 X154 ls st h → X44 ls st h) → (∀ ls st h, bX5_leastWay_154 E Q X2 X34 X44 X154 ls st h → X154 ls st h) → bX5_leastWay_0 E Q X2 X34 X44 X154 [a0, a1, jk, jk, jk] [] h
  | _ => False
set_option maxHeartbeats 4000000 in
theorem tX5_leastWay_224 {x : CX} {E : Nat → Value} {Q : Rs → HS → Prop} {X2 X34 X44 X154 : Ct} (EN : EX x E) (G : Gd x cX5_leastWay "ChantRulesModel" yX5_leastWay 5 (Option.some Jvm.ClassFile.FieldType.int) Q) (hF : x.1.2.2.2.frames = 2 ∧ x.1.2.2.2.locals = 64) (hC : x.2.2.2.2.2 = (fun _ => false)) (hxt : (∀ z ∈ x.2.2.1.2.1.exceptionTable.toList, False)) (h2 : Snd x 2 X2) (h34 : Snd x 34 X34) (h44 : Snd x 44 X44) (h154 : Snd x 154 X154) : Snd x 224 (bX5_leastWay_224 E Q X2 X34 X44 X154) := by
  unfold bX5_leastWay_224
  exact s_ireturn G dX5_leastWay_224
set_option maxHeartbeats 4000000 in
theorem tX5_leastWay_223 {x : CX} {E : Nat → Value} {Q : Rs → HS → Prop} {X2 X34 X44 X154 : Ct} (EN : EX x E) (G : Gd x cX5_leastWay "ChantRulesModel" yX5_leastWay 5 (Option.some Jvm.ClassFile.FieldType.int) Q) (hF : x.1.2.2.2.frames = 2 ∧ x.1.2.2.2.locals = 64) (hC : x.2.2.2.2.2 = (fun _ => false)) (hxt : (∀ z ∈ x.2.2.1.2.1.exceptionTable.toList, False)) (h2 : Snd x 2 X2) (h34 : Snd x 34 X34) (h44 : Snd x 44 X44) (h154 : Snd x 154 X154) : Snd x 223 (bX5_leastWay_223 E Q X2 X34 X44 X154) := by
  unfold bX5_leastWay_223
  refine s_iload_n rfl G.b dX5_leastWay_223 ?_
  exact (tX5_leastWay_224 EN G hF hC hxt h2 h34 h44 h154)
set_option maxHeartbeats 4000000 in
theorem tX5_leastWay_213 {x : CX} {E : Nat → Value} {Q : Rs → HS → Prop} {X2 X34 X44 X154 : Ct} (EN : EX x E) (G : Gd x cX5_leastWay "ChantRulesModel" yX5_leastWay 5 (Option.some Jvm.ClassFile.FieldType.int) Q) (hF : x.1.2.2.2.frames = 2 ∧ x.1.2.2.2.locals = 64) (hC : x.2.2.2.2.2 = (fun _ => false)) (hxt : (∀ z ∈ x.2.2.1.2.1.exceptionTable.toList, False)) (h2 : Snd x 2 X2) (h34 : Snd x 34 X34) (h44 : Snd x 44 X44) (h154 : Snd x 154 X154) : Snd x 213 (bX5_leastWay_213 E Q X2 X34 X44 X154) := by
  unfold bX5_leastWay_213
  refine s_iload_n rfl G.b dX5_leastWay_213 ?_
  refine s_ldcI G.b G.ow G.hts q2218 dX5_leastWay_214 ?_
  refine s_icmplt (tgt := 223) G.b dX5_leastWay_216 (by decide) (tX5_leastWay_223 EN G hF hC hxt h2 h34 h44 h154) ?_
  refine s_iconst (by decide) G.b dX5_leastWay_219 ?_
  exact s_goto (tgt := 224) G.b dX5_leastWay_220 (by decide) (tX5_leastWay_224 EN G hF hC hxt h2 h34 h44 h154)
set_option maxHeartbeats 4000000 in
theorem tX5_leastWay_206 {x : CX} {E : Nat → Value} {Q : Rs → HS → Prop} {X2 X34 X44 X154 : Ct} (EN : EX x E) (G : Gd x cX5_leastWay "ChantRulesModel" yX5_leastWay 5 (Option.some Jvm.ClassFile.FieldType.int) Q) (hF : x.1.2.2.2.frames = 2 ∧ x.1.2.2.2.locals = 64) (hC : x.2.2.2.2.2 = (fun _ => false)) (hxt : (∀ z ∈ x.2.2.1.2.1.exceptionTable.toList, False)) (h2 : Snd x 2 X2) (h34 : Snd x 34 X34) (h44 : Snd x 44 X44) (h154 : Snd x 154 X154) : Snd x 206 (bX5_leastWay_206 E Q X2 X34 X44 X154) := by
  unfold bX5_leastWay_206
  refine s_istore_n rfl G.b (by rw [G.nl]; decide) (fun _ _ => by rw [hC]) dX5_leastWay_206 ?_
  refine s_iinc (by decide) G.b (by rw [G.nl]; decide) (fun _ _ => by rw [hC]) dX5_leastWay_207 ?_
  exact s_goto (tgt := 154) G.b dX5_leastWay_210 (by decide) h154
set_option maxHeartbeats 4000000 in
theorem tX5_leastWay_205 {x : CX} {E : Nat → Value} {Q : Rs → HS → Prop} {X2 X34 X44 X154 : Ct} (EN : EX x E) (G : Gd x cX5_leastWay "ChantRulesModel" yX5_leastWay 5 (Option.some Jvm.ClassFile.FieldType.int) Q) (hF : x.1.2.2.2.frames = 2 ∧ x.1.2.2.2.locals = 64) (hC : x.2.2.2.2.2 = (fun _ => false)) (hxt : (∀ z ∈ x.2.2.1.2.1.exceptionTable.toList, False)) (h2 : Snd x 2 X2) (h34 : Snd x 34 X34) (h44 : Snd x 44 X44) (h154 : Snd x 154 X154) : Snd x 205 (bX5_leastWay_205 E Q X2 X34 X44 X154) := by
  unfold bX5_leastWay_205
  refine s_iload_n rfl G.b dX5_leastWay_205 ?_
  exact (tX5_leastWay_206 EN G hF hC hxt h2 h34 h44 h154)
set_option maxHeartbeats 4000000 in
theorem tX5_leastWay_182 {x : CX} {E : Nat → Value} {Q : Rs → HS → Prop} {X2 X34 X44 X154 : Ct} (EN : EX x E) (G : Gd x cX5_leastWay "ChantRulesModel" yX5_leastWay 5 (Option.some Jvm.ClassFile.FieldType.int) Q) (hF : x.1.2.2.2.frames = 2 ∧ x.1.2.2.2.locals = 64) (hC : x.2.2.2.2.2 = (fun _ => false)) (hxt : (∀ z ∈ x.2.2.1.2.1.exceptionTable.toList, False)) (h2 : Snd x 2 X2) (h34 : Snd x 34 X34) (h44 : Snd x 44 X44) (h154 : Snd x 154 X154) : Snd x 182 (bX5_leastWay_182 E Q X2 X34 X44 X154) := by
  unfold bX5_leastWay_182
  refine s_iadd G.b dX5_leastWay_182 ?_
  refine s_istore G.b (by rw [G.nl]; decide) (fun _ _ => by rw [hC]) dX5_leastWay_183 ?_
  refine s_aload_n rfl G.b dX5_leastWay_185 ?_
  refine s_getf G.b G.ow G.kn (G.hts _ q1919) (fun _ h => h) fa_92 dX5_leastWay_186 ?_
  refine s_iload_n rfl G.b dX5_leastWay_189 ?_
  refine s_iald G.b G.kn dX5_leastWay_190 ?_
  refine s_iflt (tgt := 205) G.b dX5_leastWay_191 (by decide) (tX5_leastWay_205 EN G hF hC hxt h2 h34 h44 h154) ?_
  refine s_iload G.b dX5_leastWay_194 ?_
  refine s_iload_n rfl G.b dX5_leastWay_196 ?_
  refine s_icmpge (tgt := 205) G.b dX5_leastWay_197 (by decide) (tX5_leastWay_205 EN G hF hC hxt h2 h34 h44 h154) ?_
  refine s_iload G.b dX5_leastWay_200 ?_
  exact s_goto (tgt := 206) G.b dX5_leastWay_202 (by decide) (tX5_leastWay_206 EN G hF hC hxt h2 h34 h44 h154)
set_option maxHeartbeats 4000000 in
theorem tX5_leastWay_181 {x : CX} {E : Nat → Value} {Q : Rs → HS → Prop} {X2 X34 X44 X154 : Ct} (EN : EX x E) (G : Gd x cX5_leastWay "ChantRulesModel" yX5_leastWay 5 (Option.some Jvm.ClassFile.FieldType.int) Q) (hF : x.1.2.2.2.frames = 2 ∧ x.1.2.2.2.locals = 64) (hC : x.2.2.2.2.2 = (fun _ => false)) (hxt : (∀ z ∈ x.2.2.1.2.1.exceptionTable.toList, False)) (h2 : Snd x 2 X2) (h34 : Snd x 34 X34) (h44 : Snd x 44 X44) (h154 : Snd x 154 X154) : Snd x 181 (bX5_leastWay_181 E Q X2 X34 X44 X154) := by
  unfold bX5_leastWay_181
  refine s_iconst (by decide) G.b dX5_leastWay_181 ?_
  exact (tX5_leastWay_182 EN G hF hC hxt h2 h34 h44 h154)
set_option maxHeartbeats 4000000 in
theorem tX5_leastWay_154 {x : CX} {E : Nat → Value} {Q : Rs → HS → Prop} {X2 X34 X44 X154 : Ct} (EN : EX x E) (G : Gd x cX5_leastWay "ChantRulesModel" yX5_leastWay 5 (Option.some Jvm.ClassFile.FieldType.int) Q) (hF : x.1.2.2.2.frames = 2 ∧ x.1.2.2.2.locals = 64) (hC : x.2.2.2.2.2 = (fun _ => false)) (hxt : (∀ z ∈ x.2.2.1.2.1.exceptionTable.toList, False)) (h2 : Snd x 2 X2) (h34 : Snd x 34 X34) (h44 : Snd x 44 X44) (h154 : Snd x 154 X154) : Snd x 154 (bX5_leastWay_154 E Q X2 X34 X44 X154) := by
  unfold bX5_leastWay_154
  refine s_iload_n rfl G.b dX5_leastWay_154 ?_
  refine s_aload_n rfl G.b dX5_leastWay_155 ?_
  refine s_getf G.b G.ow G.kn (G.hts _ q1921) (fun _ h => h) fa_100 dX5_leastWay_156 ?_
  refine s_icmpge (tgt := 213) G.b dX5_leastWay_159 (by decide) (tX5_leastWay_213 EN G hF hC hxt h2 h34 h44 h154) ?_
  refine s_aload_n rfl G.b dX5_leastWay_162 ?_
  refine s_getf G.b G.ow G.kn (G.hts _ q1934) (fun _ h => h) fa_82 dX5_leastWay_163 ?_
  refine s_iload_n rfl G.b dX5_leastWay_166 ?_
  refine s_iald G.b G.kn dX5_leastWay_167 ?_
  refine s_iload_n rfl G.b dX5_leastWay_168 ?_
  refine s_ifeq (tgt := 181) G.b dX5_leastWay_169 (by decide) (tX5_leastWay_181 EN G hF hC hxt h2 h34 h44 h154) ?_
  refine s_aload_n rfl G.b dX5_leastWay_172 ?_
  refine s_getf G.b G.ow G.kn (G.hts _ q1919) (fun _ h => h) fa_92 dX5_leastWay_173 ?_
  refine s_iload_n rfl G.b dX5_leastWay_176 ?_
  refine s_iald G.b G.kn dX5_leastWay_177 ?_
  exact s_goto (tgt := 182) G.b dX5_leastWay_178 (by decide) (tX5_leastWay_182 EN G hF hC hxt h2 h34 h44 h154)
set_option maxHeartbeats 4000000 in
theorem tX5_leastWay_149 {x : CX} {E : Nat → Value} {Q : Rs → HS → Prop} {X2 X34 X44 X154 : Ct} (EN : EX x E) (G : Gd x cX5_leastWay "ChantRulesModel" yX5_leastWay 5 (Option.some Jvm.ClassFile.FieldType.int) Q) (hF : x.1.2.2.2.frames = 2 ∧ x.1.2.2.2.locals = 64) (hC : x.2.2.2.2.2 = (fun _ => false)) (hxt : (∀ z ∈ x.2.2.1.2.1.exceptionTable.toList, False)) (h2 : Snd x 2 X2) (h34 : Snd x 34 X34) (h44 : Snd x 44 X44) (h154 : Snd x 154 X154) : Snd x 149 (bX5_leastWay_149 E Q X2 X34 X44 X154) := by
  unfold bX5_leastWay_149
  refine s_ldcI G.b G.ow G.hts q2218 dX5_leastWay_149 ?_
  refine s_istore_n rfl G.b (by rw [G.nl]; decide) (fun _ _ => by rw [hC]) dX5_leastWay_151 ?_
  refine s_iconst (by decide) G.b dX5_leastWay_152 ?_
  refine s_istore_n rfl G.b (by rw [G.nl]; decide) (fun _ _ => by rw [hC]) dX5_leastWay_153 ?_
  exact h154
set_option maxHeartbeats 4000000 in
theorem tX5_leastWay_143 {x : CX} {E : Nat → Value} {Q : Rs → HS → Prop} {X2 X34 X44 X154 : Ct} (EN : EX x E) (G : Gd x cX5_leastWay "ChantRulesModel" yX5_leastWay 5 (Option.some Jvm.ClassFile.FieldType.int) Q) (hF : x.1.2.2.2.frames = 2 ∧ x.1.2.2.2.locals = 64) (hC : x.2.2.2.2.2 = (fun _ => false)) (hxt : (∀ z ∈ x.2.2.1.2.1.exceptionTable.toList, False)) (h2 : Snd x 2 X2) (h34 : Snd x 34 X34) (h44 : Snd x 44 X44) (h154 : Snd x 154 X154) : Snd x 143 (bX5_leastWay_143 E Q X2 X34 X44 X154) := by
  unfold bX5_leastWay_143
  refine s_iinc (by decide) G.b (by rw [G.nl]; decide) (fun _ _ => by rw [hC]) dX5_leastWay_143 ?_
  exact s_goto (tgt := 34) G.b dX5_leastWay_146 (by decide) h34
set_option maxHeartbeats 4000000 in
theorem tX5_leastWay_136 {x : CX} {E : Nat → Value} {Q : Rs → HS → Prop} {X2 X34 X44 X154 : Ct} (EN : EX x E) (G : Gd x cX5_leastWay "ChantRulesModel" yX5_leastWay 5 (Option.some Jvm.ClassFile.FieldType.int) Q) (hF : x.1.2.2.2.frames = 2 ∧ x.1.2.2.2.locals = 64) (hC : x.2.2.2.2.2 = (fun _ => false)) (hxt : (∀ z ∈ x.2.2.1.2.1.exceptionTable.toList, False)) (h2 : Snd x 2 X2) (h34 : Snd x 34 X34) (h44 : Snd x 44 X44) (h154 : Snd x 154 X154) : Snd x 136 (bX5_leastWay_136 E Q X2 X34 X44 X154) := by
  unfold bX5_leastWay_136
  refine s_iast G.b G.kn dX5_leastWay_136 ?_
  refine s_iinc (by decide) G.b (by rw [G.nl]; decide) (fun _ _ => by rw [hC]) dX5_leastWay_137 ?_
  exact s_goto (tgt := 44) G.b dX5_leastWay_140 (by decide) h44
set_option maxHeartbeats 4000000 in
theorem tX5_leastWay_125 {x : CX} {E : Nat → Value} {Q : Rs → HS → Prop} {X2 X34 X44 X154 : Ct} (EN : EX x E) (G : Gd x cX5_leastWay "ChantRulesModel" yX5_leastWay 5 (Option.some Jvm.ClassFile.FieldType.int) Q) (hF : x.1.2.2.2.frames = 2 ∧ x.1.2.2.2.locals = 64) (hC : x.2.2.2.2.2 = (fun _ => false)) (hxt : (∀ z ∈ x.2.2.1.2.1.exceptionTable.toList, False)) (h2 : Snd x 2 X2) (h34 : Snd x 34 X34) (h44 : Snd x 44 X44) (h154 : Snd x 154 X154) : Snd x 125 (bX5_leastWay_125 E Q X2 X34 X44 X154) := by
  unfold bX5_leastWay_125
  refine s_aload_n rfl G.b dX5_leastWay_125 ?_
  refine s_getf G.b G.ow G.kn (G.hts _ q1934) (fun _ h => h) fa_82 dX5_leastWay_126 ?_
  refine s_aload_n rfl G.b dX5_leastWay_129 ?_
  refine s_getf G.b G.ow G.kn (G.hts _ q1915) (fun _ h => h) fa_88 dX5_leastWay_130 ?_
  refine s_iload_n rfl G.b dX5_leastWay_133 ?_
  refine s_iald G.b G.kn dX5_leastWay_134 ?_
  refine s_iald G.b G.kn dX5_leastWay_135 ?_
  exact (tX5_leastWay_136 EN G hF hC hxt h2 h34 h44 h154)
set_option maxHeartbeats 4000000 in
theorem tX5_leastWay_91 {x : CX} {E : Nat → Value} {Q : Rs → HS → Prop} {X2 X34 X44 X154 : Ct} (EN : EX x E) (G : Gd x cX5_leastWay "ChantRulesModel" yX5_leastWay 5 (Option.some Jvm.ClassFile.FieldType.int) Q) (hF : x.1.2.2.2.frames = 2 ∧ x.1.2.2.2.locals = 64) (hC : x.2.2.2.2.2 = (fun _ => false)) (hxt : (∀ z ∈ x.2.2.1.2.1.exceptionTable.toList, False)) (h2 : Snd x 2 X2) (h34 : Snd x 34 X34) (h44 : Snd x 44 X44) (h154 : Snd x 154 X154) : Snd x 91 (bX5_leastWay_91 E Q X2 X34 X44 X154) := by
  unfold bX5_leastWay_91
  refine s_iadd G.b dX5_leastWay_91 ?_
  refine s_istore G.b (by rw [G.nl]; decide) (fun _ _ => by rw [hC]) dX5_leastWay_92 ?_
  refine s_aload_n rfl G.b dX5_leastWay_94 ?_
  refine s_getf G.b G.ow G.kn (G.hts _ q1934) (fun _ h => h) fa_82 dX5_leastWay_95 ?_
  refine s_aload_n rfl G.b dX5_leastWay_98 ?_
  refine s_getf G.b G.ow G.kn (G.hts _ q1915) (fun _ h => h) fa_88 dX5_leastWay_99 ?_
  refine s_iload_n rfl G.b dX5_leastWay_102 ?_
  refine s_iald G.b G.kn dX5_leastWay_103 ?_
  refine s_iload G.b dX5_leastWay_104 ?_
  refine s_aload_n rfl G.b dX5_leastWay_106 ?_
  refine s_getf G.b G.ow G.kn (G.hts _ q1934) (fun _ h => h) fa_82 dX5_leastWay_107 ?_
  refine s_aload_n rfl G.b dX5_leastWay_110 ?_
  refine s_getf G.b G.ow G.kn (G.hts _ q1915) (fun _ h => h) fa_88 dX5_leastWay_111 ?_
  refine s_iload_n rfl G.b dX5_leastWay_114 ?_
  refine s_iald G.b G.kn dX5_leastWay_115 ?_
  refine s_iald G.b G.kn dX5_leastWay_116 ?_
  refine s_icmpge (tgt := 125) G.b dX5_leastWay_117 (by decide) (tX5_leastWay_125 EN G hF hC hxt h2 h34 h44 h154) ?_
  refine s_iload G.b dX5_leastWay_120 ?_
  exact s_goto (tgt := 136) G.b dX5_leastWay_122 (by decide) (tX5_leastWay_136 EN G hF hC hxt h2 h34 h44 h154)
set_option maxHeartbeats 4000000 in
theorem tX5_leastWay_90 {x : CX} {E : Nat → Value} {Q : Rs → HS → Prop} {X2 X34 X44 X154 : Ct} (EN : EX x E) (G : Gd x cX5_leastWay "ChantRulesModel" yX5_leastWay 5 (Option.some Jvm.ClassFile.FieldType.int) Q) (hF : x.1.2.2.2.frames = 2 ∧ x.1.2.2.2.locals = 64) (hC : x.2.2.2.2.2 = (fun _ => false)) (hxt : (∀ z ∈ x.2.2.1.2.1.exceptionTable.toList, False)) (h2 : Snd x 2 X2) (h34 : Snd x 34 X34) (h44 : Snd x 44 X44) (h154 : Snd x 154 X154) : Snd x 90 (bX5_leastWay_90 E Q X2 X34 X44 X154) := by
  unfold bX5_leastWay_90
  refine s_iconst (by decide) G.b dX5_leastWay_90 ?_
  exact (tX5_leastWay_91 EN G hF hC hxt h2 h34 h44 h154)
set_option maxHeartbeats 4000000 in
theorem tX5_leastWay_76 {x : CX} {E : Nat → Value} {Q : Rs → HS → Prop} {X2 X34 X44 X154 : Ct} (EN : EX x E) (G : Gd x cX5_leastWay "ChantRulesModel" yX5_leastWay 5 (Option.some Jvm.ClassFile.FieldType.int) Q) (hF : x.1.2.2.2.frames = 2 ∧ x.1.2.2.2.locals = 64) (hC : x.2.2.2.2.2 = (fun _ => false)) (hxt : (∀ z ∈ x.2.2.1.2.1.exceptionTable.toList, False)) (h2 : Snd x 2 X2) (h34 : Snd x 34 X34) (h44 : Snd x 44 X44) (h154 : Snd x 154 X154) : Snd x 76 (bX5_leastWay_76 E Q X2 X34 X44 X154) := by
  unfold bX5_leastWay_76
  refine s_aload_n rfl G.b dX5_leastWay_76 ?_
  refine s_getf G.b G.ow G.kn (G.hts _ q1916) (fun _ h => h) fa_89 dX5_leastWay_77 ?_
  refine s_iload_n rfl G.b dX5_leastWay_80 ?_
  refine s_iald G.b G.kn dX5_leastWay_81 ?_
  refine s_iconst (by decide) G.b dX5_leastWay_82 ?_
  refine s_icmpne (tgt := 90) G.b dX5_leastWay_83 (by decide) (tX5_leastWay_90 EN G hF hC hxt h2 h34 h44 h154) ?_
  refine s_iconst (by decide) G.b dX5_leastWay_86 ?_
  exact s_goto (tgt := 91) G.b dX5_leastWay_87 (by decide) (tX5_leastWay_91 EN G hF hC hxt h2 h34 h44 h154)
set_option maxHeartbeats 4000000 in
theorem tX5_leastWay_44 {x : CX} {E : Nat → Value} {Q : Rs → HS → Prop} {X2 X34 X44 X154 : Ct} (EN : EX x E) (G : Gd x cX5_leastWay "ChantRulesModel" yX5_leastWay 5 (Option.some Jvm.ClassFile.FieldType.int) Q) (hF : x.1.2.2.2.frames = 2 ∧ x.1.2.2.2.locals = 64) (hC : x.2.2.2.2.2 = (fun _ => false)) (hxt : (∀ z ∈ x.2.2.1.2.1.exceptionTable.toList, False)) (h2 : Snd x 2 X2) (h34 : Snd x 34 X34) (h44 : Snd x 44 X44) (h154 : Snd x 154 X154) : Snd x 44 (bX5_leastWay_44 E Q X2 X34 X44 X154) := by
  unfold bX5_leastWay_44
  refine s_iload_n rfl G.b dX5_leastWay_44 ?_
  refine s_aload_n rfl G.b dX5_leastWay_45 ?_
  refine s_getf G.b G.ow G.kn (G.hts _ q1920) (fun _ h => h) fa_99 dX5_leastWay_46 ?_
  refine s_icmpge (tgt := 143) G.b dX5_leastWay_49 (by decide) (tX5_leastWay_143 EN G hF hC hxt h2 h34 h44 h154) ?_
  refine s_aload_n rfl G.b dX5_leastWay_52 ?_
  refine s_getf G.b G.ow G.kn (G.hts _ q1934) (fun _ h => h) fa_82 dX5_leastWay_53 ?_
  refine s_aload_n rfl G.b dX5_leastWay_56 ?_
  refine s_getf G.b G.ow G.kn (G.hts _ q1914) (fun _ h => h) fa_87 dX5_leastWay_57 ?_
  refine s_iload_n rfl G.b dX5_leastWay_60 ?_
  refine s_iald G.b G.kn dX5_leastWay_61 ?_
  refine s_iald G.b G.kn dX5_leastWay_62 ?_
  refine s_iload_n rfl G.b dX5_leastWay_63 ?_
  refine s_ifeq (tgt := 76) G.b dX5_leastWay_64 (by decide) (tX5_leastWay_76 EN G hF hC hxt h2 h34 h44 h154) ?_
  refine s_aload_n rfl G.b dX5_leastWay_67 ?_
  refine s_getf G.b G.ow G.kn (G.hts _ q1918) (fun _ h => h) fa_91 dX5_leastWay_68 ?_
  refine s_iload_n rfl G.b dX5_leastWay_71 ?_
  refine s_iald G.b G.kn dX5_leastWay_72 ?_
  exact s_goto (tgt := 91) G.b dX5_leastWay_73 (by decide) (tX5_leastWay_91 EN G hF hC hxt h2 h34 h44 h154)
set_option maxHeartbeats 4000000 in
theorem tX5_leastWay_34 {x : CX} {E : Nat → Value} {Q : Rs → HS → Prop} {X2 X34 X44 X154 : Ct} (EN : EX x E) (G : Gd x cX5_leastWay "ChantRulesModel" yX5_leastWay 5 (Option.some Jvm.ClassFile.FieldType.int) Q) (hF : x.1.2.2.2.frames = 2 ∧ x.1.2.2.2.locals = 64) (hC : x.2.2.2.2.2 = (fun _ => false)) (hxt : (∀ z ∈ x.2.2.1.2.1.exceptionTable.toList, False)) (h2 : Snd x 2 X2) (h34 : Snd x 34 X34) (h44 : Snd x 44 X44) (h154 : Snd x 154 X154) : Snd x 34 (bX5_leastWay_34 E Q X2 X34 X44 X154) := by
  unfold bX5_leastWay_34
  refine s_iload_n rfl G.b dX5_leastWay_34 ?_
  refine s_aload_n rfl G.b dX5_leastWay_35 ?_
  refine s_getf G.b G.ow G.kn (G.hts _ q1921) (fun _ h => h) fa_100 dX5_leastWay_36 ?_
  refine s_icmpge (tgt := 149) G.b dX5_leastWay_39 (by decide) (tX5_leastWay_149 EN G hF hC hxt h2 h34 h44 h154) ?_
  refine s_iconst (by decide) G.b dX5_leastWay_42 ?_
  refine s_istore_n rfl G.b (by rw [G.nl]; decide) (fun _ _ => by rw [hC]) dX5_leastWay_43 ?_
  exact h44
set_option maxHeartbeats 4000000 in
theorem tX5_leastWay_32 {x : CX} {E : Nat → Value} {Q : Rs → HS → Prop} {X2 X34 X44 X154 : Ct} (EN : EX x E) (G : Gd x cX5_leastWay "ChantRulesModel" yX5_leastWay 5 (Option.some Jvm.ClassFile.FieldType.int) Q) (hF : x.1.2.2.2.frames = 2 ∧ x.1.2.2.2.locals = 64) (hC : x.2.2.2.2.2 = (fun _ => false)) (hxt : (∀ z ∈ x.2.2.1.2.1.exceptionTable.toList, False)) (h2 : Snd x 2 X2) (h34 : Snd x 34 X34) (h44 : Snd x 44 X44) (h154 : Snd x 154 X154) : Snd x 32 (bX5_leastWay_32 E Q X2 X34 X44 X154) := by
  unfold bX5_leastWay_32
  refine s_iconst (by decide) G.b dX5_leastWay_32 ?_
  refine s_istore_n rfl G.b (by rw [G.nl]; decide) (fun _ _ => by rw [hC]) dX5_leastWay_33 ?_
  exact h34
set_option maxHeartbeats 4000000 in
theorem tX5_leastWay_25 {x : CX} {E : Nat → Value} {Q : Rs → HS → Prop} {X2 X34 X44 X154 : Ct} (EN : EX x E) (G : Gd x cX5_leastWay "ChantRulesModel" yX5_leastWay 5 (Option.some Jvm.ClassFile.FieldType.int) Q) (hF : x.1.2.2.2.frames = 2 ∧ x.1.2.2.2.locals = 64) (hC : x.2.2.2.2.2 = (fun _ => false)) (hxt : (∀ z ∈ x.2.2.1.2.1.exceptionTable.toList, False)) (h2 : Snd x 2 X2) (h34 : Snd x 34 X34) (h44 : Snd x 44 X44) (h154 : Snd x 154 X154) : Snd x 25 (bX5_leastWay_25 E Q X2 X34 X44 X154) := by
  unfold bX5_leastWay_25
  refine s_iast G.b G.kn dX5_leastWay_25 ?_
  refine s_iinc (by decide) G.b (by rw [G.nl]; decide) (fun _ _ => by rw [hC]) dX5_leastWay_26 ?_
  exact s_goto (tgt := 2) G.b dX5_leastWay_29 (by decide) h2
set_option maxHeartbeats 4000000 in
theorem tX5_leastWay_23 {x : CX} {E : Nat → Value} {Q : Rs → HS → Prop} {X2 X34 X44 X154 : Ct} (EN : EX x E) (G : Gd x cX5_leastWay "ChantRulesModel" yX5_leastWay 5 (Option.some Jvm.ClassFile.FieldType.int) Q) (hF : x.1.2.2.2.frames = 2 ∧ x.1.2.2.2.locals = 64) (hC : x.2.2.2.2.2 = (fun _ => false)) (hxt : (∀ z ∈ x.2.2.1.2.1.exceptionTable.toList, False)) (h2 : Snd x 2 X2) (h34 : Snd x 34 X34) (h44 : Snd x 44 X44) (h154 : Snd x 154 X154) : Snd x 23 (bX5_leastWay_23 E Q X2 X34 X44 X154) := by
  unfold bX5_leastWay_23
  refine s_ldcI G.b G.ow G.hts q2218 dX5_leastWay_23 ?_
  exact (tX5_leastWay_25 EN G hF hC hxt h2 h34 h44 h154)
set_option maxHeartbeats 4000000 in
theorem tX5_leastWay_2 {x : CX} {E : Nat → Value} {Q : Rs → HS → Prop} {X2 X34 X44 X154 : Ct} (EN : EX x E) (G : Gd x cX5_leastWay "ChantRulesModel" yX5_leastWay 5 (Option.some Jvm.ClassFile.FieldType.int) Q) (hF : x.1.2.2.2.frames = 2 ∧ x.1.2.2.2.locals = 64) (hC : x.2.2.2.2.2 = (fun _ => false)) (hxt : (∀ z ∈ x.2.2.1.2.1.exceptionTable.toList, False)) (h2 : Snd x 2 X2) (h34 : Snd x 34 X34) (h44 : Snd x 44 X44) (h154 : Snd x 154 X154) : Snd x 2 (bX5_leastWay_2 E Q X2 X34 X44 X154) := by
  unfold bX5_leastWay_2
  refine s_iload_n rfl G.b dX5_leastWay_2 ?_
  refine s_aload_n rfl G.b dX5_leastWay_3 ?_
  refine s_getf G.b G.ow G.kn (G.hts _ q1921) (fun _ h => h) fa_100 dX5_leastWay_4 ?_
  refine s_icmpge (tgt := 32) G.b dX5_leastWay_7 (by decide) (tX5_leastWay_32 EN G hF hC hxt h2 h34 h44 h154) ?_
  refine s_aload_n rfl G.b dX5_leastWay_10 ?_
  refine s_getf G.b G.ow G.kn (G.hts _ q1934) (fun _ h => h) fa_82 dX5_leastWay_11 ?_
  refine s_iload_n rfl G.b dX5_leastWay_14 ?_
  refine s_iload_n rfl G.b dX5_leastWay_15 ?_
  refine s_ifne (tgt := 23) G.b dX5_leastWay_16 (by decide) (tX5_leastWay_23 EN G hF hC hxt h2 h34 h44 h154) ?_
  refine s_iconst (by decide) G.b dX5_leastWay_19 ?_
  exact s_goto (tgt := 25) G.b dX5_leastWay_20 (by decide) (tX5_leastWay_25 EN G hF hC hxt h2 h34 h44 h154)
set_option maxHeartbeats 4000000 in
theorem tX5_leastWay_0 {x : CX} {E : Nat → Value} {Q : Rs → HS → Prop} {X2 X34 X44 X154 : Ct} (EN : EX x E) (G : Gd x cX5_leastWay "ChantRulesModel" yX5_leastWay 5 (Option.some Jvm.ClassFile.FieldType.int) Q) (hF : x.1.2.2.2.frames = 2 ∧ x.1.2.2.2.locals = 64) (hC : x.2.2.2.2.2 = (fun _ => false)) (hxt : (∀ z ∈ x.2.2.1.2.1.exceptionTable.toList, False)) (h2 : Snd x 2 X2) (h34 : Snd x 34 X34) (h44 : Snd x 44 X44) (h154 : Snd x 154 X154) : Snd x 0 (bX5_leastWay_0 E Q X2 X34 X44 X154) := by
  unfold bX5_leastWay_0
  refine s_iconst (by decide) G.b dX5_leastWay_0 ?_
  refine s_istore_n rfl G.b (by rw [G.nl]; decide) (fun _ _ => by rw [hC]) dX5_leastWay_1 ?_
  exact h2
set_option maxHeartbeats 4000000 in
theorem mX5_leastWay {l : Launch} {D : DE} {s0 : State} {E : Nat → Value} (EN : EV l D s0 E) : rMet l D s0 yX5_leastWay (ws_ yX5_leastWay cX5_leastWay 5 (Option.some Jvm.ClassFile.FieldType.int)) 2 64 (wX5_leastWay E) := by
  refine body_met (fun _ => false) EN.kn (fun w h => h) (by decide +kernel) rfl (fun av h Q hw => ?_) ?_
  · unfold wX5_leastWay at hw
    split at hw
    · exact Nat.le_of_ble_eq_true rfl
    · exact hw.elim
  · intro p e s m below meth c av h Q hxt G hw
    unfold wX5_leastWay at hw
    split at hw
    · exact tX5_leastWay_0 EN G ⟨rfl, rfl⟩ rfl hxt (fun _ _ _ h => h) (fun _ _ _ h => h) (fun _ _ _ h => h) (fun _ _ _ h => h) _ _ _ (hw (AW _ 2) (AW _ 34) (AW _ 44) (AW _ 154) (tX5_leastWay_2 EN G ⟨rfl, rfl⟩ rfl hxt (fun _ _ _ h => h) (fun _ _ _ h => h) (fun _ _ _ h => h) (fun _ _ _ h => h)) (tX5_leastWay_34 EN G ⟨rfl, rfl⟩ rfl hxt (fun _ _ _ h => h) (fun _ _ _ h => h) (fun _ _ _ h => h) (fun _ _ _ h => h)) (tX5_leastWay_44 EN G ⟨rfl, rfl⟩ rfl hxt (fun _ _ _ h => h) (fun _ _ _ h => h) (fun _ _ _ h => h) (fun _ _ _ h => h)) (tX5_leastWay_154 EN G ⟨rfl, rfl⟩ rfl hxt (fun _ _ _ h => h) (fun _ _ _ h => h) (fun _ _ _ h => h) (fun _ _ _ h => h)))
    · exact hw.elim
/-! ChantRulesModel.leastOf(IZ)I (X5_leastOf) -/
theorem nmk_276 : nm_ok yX5_leastWay 1 := ⟨by decide +kernel, by decide +kernel, by decide +kernel⟩
def bX5_leastOf_31 (E : Nat → Value) (Q : Rs → HS → Prop) : Ct :=
  o_ireturn .int Q
def bX5_leastOf_30 (E : Nat → Value) (Q : Rs → HS → Prop) : Ct :=
  o_iload 3 <|
  (bX5_leastOf_31 E Q)
def bX5_leastOf_10 (E : Nat → Value) (Q : Rs → HS → Prop) : Ct :=
  o_aload 0 <|
  o_iload 1 <|
  o_callV [8] 2 (wX5_laysRule E) (x_out Q) <|
  o_aload 0 <|
  o_iload 2 <|
  o_callV [8] 2 (wX5_leastWay E) (x_out Q) <|
  o_istore 3 <|
  o_iload 3 <|
  o_ifge (bX5_leastOf_30 E Q) <|
  o_push (.int (-15)) <|
  (bX5_leastOf_31 E Q)
def bX5_leastOf_0 (E : Nat → Value) (Q : Rs → HS → Prop) : Ct :=
  o_iload 1 <|
  o_call 1 (wX5_isRule E) (x_out Q) <|
  o_ifne (bX5_leastOf_10 E Q) <|
  o_push (.int (-11)) <|
  o_ireturn .int Q
def wX5_leastOf (E : Nat → Value) : Wp := fun av h Q => match av with
  | [a0, a1, a2] => bX5_leastOf_0 E Q [a0, a1, a2, jk] [] h
  | _ => False
set_option maxHeartbeats 4000000 in
theorem tX5_leastOf_31 {x : CX} {E : Nat → Value} {Q : Rs → HS → Prop} (EN : EX x E) (G : Gd x cX5_leastOf "ChantRulesModel" yX5_leastOf 4 (Option.some Jvm.ClassFile.FieldType.int) Q) (hF : x.1.2.2.2.frames = 4 ∧ x.1.2.2.2.locals = 111) (hC : x.2.2.2.2.2 = (fun _ => false)) (hxt : (∀ z ∈ x.2.2.1.2.1.exceptionTable.toList, False)) : Snd x 31 (bX5_leastOf_31 E Q) := by
  unfold bX5_leastOf_31
  exact s_ireturn G dX5_leastOf_31
set_option maxHeartbeats 4000000 in
theorem tX5_leastOf_30 {x : CX} {E : Nat → Value} {Q : Rs → HS → Prop} (EN : EX x E) (G : Gd x cX5_leastOf "ChantRulesModel" yX5_leastOf 4 (Option.some Jvm.ClassFile.FieldType.int) Q) (hF : x.1.2.2.2.frames = 4 ∧ x.1.2.2.2.locals = 111) (hC : x.2.2.2.2.2 = (fun _ => false)) (hxt : (∀ z ∈ x.2.2.1.2.1.exceptionTable.toList, False)) : Snd x 30 (bX5_leastOf_30 E Q) := by
  unfold bX5_leastOf_30
  refine s_iload_n rfl G.b dX5_leastOf_30 ?_
  exact (tX5_leastOf_31 EN G hF hC hxt)
set_option maxHeartbeats 4000000 in
theorem tX5_leastOf_10 {x : CX} {E : Nat → Value} {Q : Rs → HS → Prop} (EN : EX x E) (G : Gd x cX5_leastOf "ChantRulesModel" yX5_leastOf 4 (Option.some Jvm.ClassFile.FieldType.int) Q) (hF : x.1.2.2.2.frames = 4 ∧ x.1.2.2.2.locals = 111) (hC : x.2.2.2.2.2 = (fun _ => false)) (hxt : (∀ z ∈ x.2.2.1.2.1.exceptionTable.toList, False)) : Snd x 10 (bX5_leastOf_10 E Q) := by
  unfold bX5_leastOf_10
  refine s_aload_n rfl G.b dX5_leastOf_10 ?_
  refine s_iload_n rfl G.b dX5_leastOf_11 ?_
  refine s_callV G (mX5_laysRule EN) q2118 q2120 (sel_cons (r := (RX5, TX5, 37)) (by decide) rfl qs46 (sel_nil)) q90 q2121 nmk_274 (rm_of hF (Nat.le_of_ble_eq_true rfl) (Nat.le_of_ble_eq_true rfl)) dX5_leastOf_12 ?_ (sx_out G (fun z hz => (hxt z hz).elim))
  refine s_aload_n rfl G.b dX5_leastOf_15 ?_
  refine s_iload_n rfl G.b dX5_leastOf_16 ?_
  refine s_callV G (mX5_leastWay EN) q2214 q2216 (sel_cons (r := (RX5, TX5, 37)) (by decide) rfl qs62 (sel_nil)) q90 q2217 nmk_276 (rm_of hF (Nat.le_of_ble_eq_true rfl) (Nat.le_of_ble_eq_true rfl)) dX5_leastOf_17 ?_ (sx_out G (fun z hz => (hxt z hz).elim))
  refine s_istore_n rfl G.b (by rw [G.nl]; decide) (fun _ _ => by rw [hC]) dX5_leastOf_20 ?_
  refine s_iload_n rfl G.b dX5_leastOf_21 ?_
  refine s_ifge (tgt := 30) G.b dX5_leastOf_22 (by decide) (tX5_leastOf_30 EN G hF hC hxt) ?_
  refine s_bipush (by decide) G.b dX5_leastOf_25 ?_
  exact s_goto (tgt := 31) G.b dX5_leastOf_27 (by decide) (tX5_leastOf_31 EN G hF hC hxt)
set_option maxHeartbeats 4000000 in
theorem tX5_leastOf_0 {x : CX} {E : Nat → Value} {Q : Rs → HS → Prop} (EN : EX x E) (G : Gd x cX5_leastOf "ChantRulesModel" yX5_leastOf 4 (Option.some Jvm.ClassFile.FieldType.int) Q) (hF : x.1.2.2.2.frames = 4 ∧ x.1.2.2.2.locals = 111) (hC : x.2.2.2.2.2 = (fun _ => false)) (hxt : (∀ z ∈ x.2.2.1.2.1.exceptionTable.toList, False)) : Snd x 0 (bX5_leastOf_0 E Q) := by
  unfold bX5_leastOf_0
  refine s_iload_n rfl G.b dX5_leastOf_0 ?_
  refine s_callS G (mX5_isRule EN) q2030 q2031 q90 q2032 nmk_253 (rm_of hF (Nat.le_of_ble_eq_true rfl) (Nat.le_of_ble_eq_true rfl)) dX5_leastOf_1 ?_ (sx_out G (fun z hz => (hxt z hz).elim))
  refine s_ifne (tgt := 10) G.b dX5_leastOf_4 (by decide) (tX5_leastOf_10 EN G hF hC hxt) ?_
  refine s_bipush (by decide) G.b dX5_leastOf_7 ?_
  exact s_ireturn G dX5_leastOf_9
set_option maxHeartbeats 4000000 in
theorem mX5_leastOf {l : Launch} {D : DE} {s0 : State} {E : Nat → Value} (EN : EV l D s0 E) : rMet l D s0 yX5_leastOf (ws_ yX5_leastOf cX5_leastOf 4 (Option.some Jvm.ClassFile.FieldType.int)) 4 111 (wX5_leastOf E) := by
  refine body_met (fun _ => false) EN.kn (fun w h => h) (by decide +kernel) rfl (fun av h Q hw => ?_) ?_
  · unfold wX5_leastOf at hw
    split at hw
    · exact Nat.le_of_ble_eq_true rfl
    · exact hw.elim
  · intro p e s m below meth c av h Q hxt G hw
    unfold wX5_leastOf at hw
    split at hw
    · exact tX5_leastOf_0 EN G ⟨rfl, rfl⟩ rfl hxt _ _ _ hw
    · exact hw.elim
/-! ChantRulesModel.cheapest(I)I (X5_cheapest) -/
theorem nmk_277 : nm_ok yX5_leastOf 2 := ⟨by decide +kernel, by decide +kernel, by decide +kernel⟩
def bX5_cheapest_0 (E : Nat → Value) (Q : Rs → HS → Prop) : Ct :=
  o_aload 0 <|
  o_iload 1 <|
  o_push (.int 1) <|
  o_callV [8] 3 (wX5_leastOf E) (x_out Q) <|
  o_ireturn .int Q
def wX5_cheapest (E : Nat → Value) : Wp := fun av h Q => match av with
  | [a0, a1] => bX5_cheapest_0 E Q [a0, a1] [] h
  | _ => False
set_option maxHeartbeats 4000000 in
theorem tX5_cheapest_0 {x : CX} {E : Nat → Value} {Q : Rs → HS → Prop} (EN : EX x E) (G : Gd x cX5_cheapest "ChantRulesModel" yX5_cheapest 2 (Option.some Jvm.ClassFile.FieldType.int) Q) (hF : x.1.2.2.2.frames = 5 ∧ x.1.2.2.2.locals = 134) (hC : x.2.2.2.2.2 = (fun _ => false)) (hxt : (∀ z ∈ x.2.2.1.2.1.exceptionTable.toList, False)) : Snd x 0 (bX5_cheapest_0 E Q) := by
  unfold bX5_cheapest_0
  refine s_aload_n rfl G.b dX5_cheapest_0 ?_
  refine s_iload_n rfl G.b dX5_cheapest_1 ?_
  refine s_iconst (by decide) G.b dX5_cheapest_2 ?_
  refine s_callV G (mX5_leastOf EN) q2210 q2212 (sel_cons (r := (RX5, TX5, 37)) (by decide) rfl qs61 (sel_nil)) q90 q2213 nmk_277 (rm_of hF (Nat.le_of_ble_eq_true rfl) (Nat.le_of_ble_eq_true rfl)) dX5_cheapest_3 ?_ (sx_out G (fun z hz => (hxt z hz).elim))
  exact s_ireturn G dX5_cheapest_6
set_option maxHeartbeats 4000000 in
theorem mX5_cheapest {l : Launch} {D : DE} {s0 : State} {E : Nat → Value} (EN : EV l D s0 E) : rMet l D s0 yX5_cheapest (ws_ yX5_cheapest cX5_cheapest 2 (Option.some Jvm.ClassFile.FieldType.int)) 5 134 (wX5_cheapest E) := by
  refine body_met (fun _ => false) EN.kn (fun w h => h) (by decide +kernel) rfl (fun av h Q hw => ?_) ?_
  · unfold wX5_cheapest at hw
    split at hw
    · exact Nat.le_of_ble_eq_true rfl
    · exact hw.elim
  · intro p e s m below meth c av h Q hxt G hw
    unfold wX5_cheapest at hw
    split at hw
    · exact tX5_cheapest_0 EN G ⟨rfl, rfl⟩ rfl hxt _ _ _ hw
    · exact hw.elim
/-! ChantRulesModel.clear()I (X5_clear) -/
def bX5_clear_0 (E : Nat → Value) (Q : Rs → HS → Prop) : Ct :=
  o_aload 0 <|
  o_getf [8] 26 <|
  o_istore 1 <|
  o_aload 0 <|
  o_push (.int 0) <|
  o_putf [8] 26 .int <|
  o_iload 1 <|
  o_ireturn .int Q
def wX5_clear (E : Nat → Value) : Wp := fun av h Q => match av with
  | [a0] => bX5_clear_0 E Q [a0, jk] [] h
  | _ => False
set_option maxHeartbeats 4000000 in
theorem tX5_clear_0 {x : CX} {E : Nat → Value} {Q : Rs → HS → Prop} (EN : EX x E) (G : Gd x cX5_clear "ChantRulesModel" yX5_clear 2 (Option.some Jvm.ClassFile.FieldType.int) Q) (hF : x.1.2.2.2.frames = 2 ∧ x.1.2.2.2.locals = 64) (hC : x.2.2.2.2.2 = (fun _ => false)) (hxt : (∀ z ∈ x.2.2.1.2.1.exceptionTable.toList, False)) : Snd x 0 (bX5_clear_0 E Q) := by
  unfold bX5_clear_0
  refine s_aload_n rfl G.b dX5_clear_0 ?_
  refine s_getf G.b G.ow G.kn (G.hts _ q1929) (fun _ h => h) fa_94 dX5_clear_1 ?_
  refine s_istore_n rfl G.b (by rw [G.nl]; decide) (fun _ _ => by rw [hC]) dX5_clear_4 ?_
  refine s_aload_n rfl G.b dX5_clear_5 ?_
  refine s_iconst (by decide) G.b dX5_clear_6 ?_
  refine s_putf G.b G.ow G.kn (G.hts _ q1929) (fun _ h => h) fa_94 (la_cons (r := (RX5, TX5, 37)) G.hts (by decide) rfl q1992 (la_nil)) (by decide +kernel) dX5_clear_7 ?_
  refine s_iload_n rfl G.b dX5_clear_10 ?_
  exact s_ireturn G dX5_clear_11
set_option maxHeartbeats 4000000 in
theorem mX5_clear {l : Launch} {D : DE} {s0 : State} {E : Nat → Value} (EN : EV l D s0 E) : rMet l D s0 yX5_clear (ws_ yX5_clear cX5_clear 2 (Option.some Jvm.ClassFile.FieldType.int)) 2 64 (wX5_clear E) := by
  refine body_met (fun _ => false) EN.kn (fun w h => h) (by decide +kernel) rfl (fun av h Q hw => ?_) ?_
  · unfold wX5_clear at hw
    split at hw
    · exact Nat.le_of_ble_eq_true rfl
    · exact hw.elim
  · intro p e s m below meth c av h Q hxt G hw
    unfold wX5_clear at hw
    split at hw
    · exact tX5_clear_0 EN G ⟨rfl, rfl⟩ rfl hxt _ _ _ hw
    · exact hw.elim
/-! ChantRulesModel.composed(I)I (X5_composed) -/
def bX5_composed_156 (E : Nat → Value) (Q : Rs → HS → Prop) (X24 X99 : Ct) : Ct :=
  o_iload 2 <|
  o_ireturn .int Q
def bX5_composed_148 (E : Nat → Value) (Q : Rs → HS → Prop) (X24 X99 : Ct) : Ct :=
  o_iadd <|
  o_istore 2 <|
  o_iinc 3 1 <|
  X99
def bX5_composed_147 (E : Nat → Value) (Q : Rs → HS → Prop) (X24 X99 : Ct) : Ct :=
  o_push (.int 0) <|
  (bX5_composed_148 E Q X24 X99)
def bX5_composed_133 (E : Nat → Value) (Q : Rs → HS → Prop) (X24 X99 : Ct) : Ct :=
  o_aload 0 <|
  o_getf [8] 19 <|
  o_aload 0 <|
  o_getf [8] 11 <|
  o_iload 3 <|
  o_ald [100] <|
  o_ald [100] <|
  (bX5_composed_148 E Q X24 X99)
def bX5_composed_117 (E : Nat → Value) (Q : Rs → HS → Prop) (X24 X99 : Ct) : Ct :=
  o_iload 2 <|
  o_iload 1 <|
  o_push (.int 2) <|
  o_icmpeq (bX5_composed_133 E Q X24 X99) <|
  o_aload 0 <|
  o_getf [8] 13 <|
  o_iload 3 <|
  o_ald [100] <|
  o_push (.int 4) <|
  o_icmpne (bX5_composed_147 E Q X24 X99) <|
  (bX5_composed_133 E Q X24 X99)
def bX5_composed_99 (E : Nat → Value) (Q : Rs → HS → Prop) (X24 X99 : Ct) : Ct :=
  o_iload 3 <|
  o_aload 0 <|
  o_getf [8] 17 <|
  o_icmpge (bX5_composed_156 E Q X24 X99) <|
  o_iload 1 <|
  o_push (.int 2) <|
  o_icmpeq (bX5_composed_117 E Q X24 X99) <|
  o_iload 1 <|
  o_push (.int 3) <|
  o_icmpne (bX5_composed_156 E Q X24 X99) <|
  (bX5_composed_117 E Q X24 X99)
def bX5_composed_97 (E : Nat → Value) (Q : Rs → HS → Prop) (X24 X99 : Ct) : Ct :=
  o_push (.int 0) <|
  o_istore 3 <|
  X99
def bX5_composed_89 (E : Nat → Value) (Q : Rs → HS → Prop) (X24 X99 : Ct) : Ct :=
  o_iadd <|
  o_istore 2 <|
  o_iinc 3 1 <|
  X24
def bX5_composed_83 (E : Nat → Value) (Q : Rs → HS → Prop) (X24 X99 : Ct) : Ct :=
  o_aload 0 <|
  o_getf [8] 19 <|
  o_iload 3 <|
  o_ald [100] <|
  (bX5_composed_89 E Q X24 X99)
def bX5_composed_70 (E : Nat → Value) (Q : Rs → HS → Prop) (X24 X99 : Ct) : Ct :=
  o_aload 0 <|
  o_getf [8] 16 <|
  o_iload 3 <|
  o_ald [100] <|
  o_ifge (bX5_composed_83 E Q X24 X99) <|
  o_push (.int 0) <|
  (bX5_composed_89 E Q X24 X99)
def bX5_composed_56 (E : Nat → Value) (Q : Rs → HS → Prop) (X24 X99 : Ct) : Ct :=
  o_iload 1 <|
  o_push (.int 1) <|
  o_icmpne (bX5_composed_70 E Q X24 X99) <|
  o_aload 0 <|
  o_getf [8] 20 <|
  o_iload 3 <|
  o_ald [100] <|
  (bX5_composed_89 E Q X24 X99)
def bX5_composed_24 (E : Nat → Value) (Q : Rs → HS → Prop) (X24 X99 : Ct) : Ct :=
  o_iload 3 <|
  o_aload 0 <|
  o_getf [8] 18 <|
  o_icmpge (bX5_composed_97 E Q X24 X99) <|
  o_iload 1 <|
  o_push (.int 2) <|
  o_icmpeq (bX5_composed_97 E Q X24 X99) <|
  o_iload 1 <|
  o_push (.int 3) <|
  o_icmpeq (bX5_composed_97 E Q X24 X99) <|
  o_iload 2 <|
  o_iload 1 <|
  o_ifne (bX5_composed_56 E Q X24 X99) <|
  o_aload 0 <|
  o_getf [8] 19 <|
  o_iload 3 <|
  o_ald [100] <|
  (bX5_composed_89 E Q X24 X99)
def bX5_composed_12 (E : Nat → Value) (Q : Rs → HS → Prop) (X24 X99 : Ct) : Ct :=
  o_aload 0 <|
  o_callV [8] 1 (wX5_laysBoth E) (x_out Q) <|
  o_aload 0 <|
  o_callV [8] 1 (wX5_finds E) (x_out Q) <|
  o_push (.int 0) <|
  o_istore 2 <|
  o_push (.int 0) <|
  o_istore 3 <|
  X24
def bX5_composed_0 (E : Nat → Value) (Q : Rs → HS → Prop) (X24 X99 : Ct) : Ct :=
  o_iload 1 <|
  o_push (.int 0) <|
  o_push (.int 4) <|
  o_call 3 (wX5_isIn E) (x_out Q) <|
  o_ifne (bX5_composed_12 E Q X24 X99) <|
  o_push (.int (-12)) <|
  o_ireturn .int Q
def wX5_composed (E : Nat → Value) : Wp := fun av h Q => match av with
  | [a0, a1] => ∀ X24 X99 : Ct, (∀ ls st h, bX5_composed_24 E Q X24 X99 ls st h → X24 ls st h) → (∀ ls st h, bX5_composed_99 E Q X24 X99 ls st h → X99 ls st h) → bX5_composed_0 E Q X24 X99 [a0, a1, jk, jk] [] h
  | _ => False
set_option maxHeartbeats 4000000 in
theorem tX5_composed_156 {x : CX} {E : Nat → Value} {Q : Rs → HS → Prop} {X24 X99 : Ct} (EN : EX x E) (G : Gd x cX5_composed "ChantRulesModel" yX5_composed 4 (Option.some Jvm.ClassFile.FieldType.int) Q) (hF : x.1.2.2.2.frames = 5 ∧ x.1.2.2.2.locals = 140) (hC : x.2.2.2.2.2 = (fun _ => false)) (hxt : (∀ z ∈ x.2.2.1.2.1.exceptionTable.toList, False)) (h24 : Snd x 24 X24) (h99 : Snd x 99 X99) : Snd x 156 (bX5_composed_156 E Q X24 X99) := by
  unfold bX5_composed_156
  refine s_iload_n rfl G.b dX5_composed_156 ?_
  exact s_ireturn G dX5_composed_157
set_option maxHeartbeats 4000000 in
theorem tX5_composed_148 {x : CX} {E : Nat → Value} {Q : Rs → HS → Prop} {X24 X99 : Ct} (EN : EX x E) (G : Gd x cX5_composed "ChantRulesModel" yX5_composed 4 (Option.some Jvm.ClassFile.FieldType.int) Q) (hF : x.1.2.2.2.frames = 5 ∧ x.1.2.2.2.locals = 140) (hC : x.2.2.2.2.2 = (fun _ => false)) (hxt : (∀ z ∈ x.2.2.1.2.1.exceptionTable.toList, False)) (h24 : Snd x 24 X24) (h99 : Snd x 99 X99) : Snd x 148 (bX5_composed_148 E Q X24 X99) := by
  unfold bX5_composed_148
  refine s_iadd G.b dX5_composed_148 ?_
  refine s_istore_n rfl G.b (by rw [G.nl]; decide) (fun _ _ => by rw [hC]) dX5_composed_149 ?_
  refine s_iinc (by decide) G.b (by rw [G.nl]; decide) (fun _ _ => by rw [hC]) dX5_composed_150 ?_
  exact s_goto (tgt := 99) G.b dX5_composed_153 (by decide) h99
set_option maxHeartbeats 4000000 in
theorem tX5_composed_147 {x : CX} {E : Nat → Value} {Q : Rs → HS → Prop} {X24 X99 : Ct} (EN : EX x E) (G : Gd x cX5_composed "ChantRulesModel" yX5_composed 4 (Option.some Jvm.ClassFile.FieldType.int) Q) (hF : x.1.2.2.2.frames = 5 ∧ x.1.2.2.2.locals = 140) (hC : x.2.2.2.2.2 = (fun _ => false)) (hxt : (∀ z ∈ x.2.2.1.2.1.exceptionTable.toList, False)) (h24 : Snd x 24 X24) (h99 : Snd x 99 X99) : Snd x 147 (bX5_composed_147 E Q X24 X99) := by
  unfold bX5_composed_147
  refine s_iconst (by decide) G.b dX5_composed_147 ?_
  exact (tX5_composed_148 EN G hF hC hxt h24 h99)
set_option maxHeartbeats 4000000 in
theorem tX5_composed_133 {x : CX} {E : Nat → Value} {Q : Rs → HS → Prop} {X24 X99 : Ct} (EN : EX x E) (G : Gd x cX5_composed "ChantRulesModel" yX5_composed 4 (Option.some Jvm.ClassFile.FieldType.int) Q) (hF : x.1.2.2.2.frames = 5 ∧ x.1.2.2.2.locals = 140) (hC : x.2.2.2.2.2 = (fun _ => false)) (hxt : (∀ z ∈ x.2.2.1.2.1.exceptionTable.toList, False)) (h24 : Snd x 24 X24) (h99 : Snd x 99 X99) : Snd x 133 (bX5_composed_133 E Q X24 X99) := by
  unfold bX5_composed_133
  refine s_aload_n rfl G.b dX5_composed_133 ?_
  refine s_getf G.b G.ow G.kn (G.hts _ q1922) (fun _ h => h) fa_74 dX5_composed_134 ?_
  refine s_aload_n rfl G.b dX5_composed_137 ?_
  refine s_getf G.b G.ow G.kn (G.hts _ q1914) (fun _ h => h) fa_87 dX5_composed_138 ?_
  refine s_iload_n rfl G.b dX5_composed_141 ?_
  refine s_iald G.b G.kn dX5_composed_142 ?_
  refine s_iald G.b G.kn dX5_composed_143 ?_
  exact s_goto (tgt := 148) G.b dX5_composed_144 (by decide) (tX5_composed_148 EN G hF hC hxt h24 h99)
set_option maxHeartbeats 4000000 in
theorem tX5_composed_117 {x : CX} {E : Nat → Value} {Q : Rs → HS → Prop} {X24 X99 : Ct} (EN : EX x E) (G : Gd x cX5_composed "ChantRulesModel" yX5_composed 4 (Option.some Jvm.ClassFile.FieldType.int) Q) (hF : x.1.2.2.2.frames = 5 ∧ x.1.2.2.2.locals = 140) (hC : x.2.2.2.2.2 = (fun _ => false)) (hxt : (∀ z ∈ x.2.2.1.2.1.exceptionTable.toList, False)) (h24 : Snd x 24 X24) (h99 : Snd x 99 X99) : Snd x 117 (bX5_composed_117 E Q X24 X99) := by
  unfold bX5_composed_117
  refine s_iload_n rfl G.b dX5_composed_117 ?_
  refine s_iload_n rfl G.b dX5_composed_118 ?_
  refine s_iconst (by decide) G.b dX5_composed_119 ?_
  refine s_icmpeq (tgt := 133) G.b dX5_composed_120 (by decide) (tX5_composed_133 EN G hF hC hxt h24 h99) ?_
  refine s_aload_n rfl G.b dX5_composed_123 ?_
  refine s_getf G.b G.ow G.kn (G.hts _ q1916) (fun _ h => h) fa_89 dX5_composed_124 ?_
  refine s_iload_n rfl G.b dX5_composed_127 ?_
  refine s_iald G.b G.kn dX5_composed_128 ?_
  refine s_iconst (by decide) G.b dX5_composed_129 ?_
  refine s_icmpne (tgt := 147) G.b dX5_composed_130 (by decide) (tX5_composed_147 EN G hF hC hxt h24 h99) ?_
  exact (tX5_composed_133 EN G hF hC hxt h24 h99)
set_option maxHeartbeats 4000000 in
theorem tX5_composed_99 {x : CX} {E : Nat → Value} {Q : Rs → HS → Prop} {X24 X99 : Ct} (EN : EX x E) (G : Gd x cX5_composed "ChantRulesModel" yX5_composed 4 (Option.some Jvm.ClassFile.FieldType.int) Q) (hF : x.1.2.2.2.frames = 5 ∧ x.1.2.2.2.locals = 140) (hC : x.2.2.2.2.2 = (fun _ => false)) (hxt : (∀ z ∈ x.2.2.1.2.1.exceptionTable.toList, False)) (h24 : Snd x 24 X24) (h99 : Snd x 99 X99) : Snd x 99 (bX5_composed_99 E Q X24 X99) := by
  unfold bX5_composed_99
  refine s_iload_n rfl G.b dX5_composed_99 ?_
  refine s_aload_n rfl G.b dX5_composed_100 ?_
  refine s_getf G.b G.ow G.kn (G.hts _ q1920) (fun _ h => h) fa_99 dX5_composed_101 ?_
  refine s_icmpge (tgt := 156) G.b dX5_composed_104 (by decide) (tX5_composed_156 EN G hF hC hxt h24 h99) ?_
  refine s_iload_n rfl G.b dX5_composed_107 ?_
  refine s_iconst (by decide) G.b dX5_composed_108 ?_
  refine s_icmpeq (tgt := 117) G.b dX5_composed_109 (by decide) (tX5_composed_117 EN G hF hC hxt h24 h99) ?_
  refine s_iload_n rfl G.b dX5_composed_112 ?_
  refine s_iconst (by decide) G.b dX5_composed_113 ?_
  refine s_icmpne (tgt := 156) G.b dX5_composed_114 (by decide) (tX5_composed_156 EN G hF hC hxt h24 h99) ?_
  exact (tX5_composed_117 EN G hF hC hxt h24 h99)
set_option maxHeartbeats 4000000 in
theorem tX5_composed_97 {x : CX} {E : Nat → Value} {Q : Rs → HS → Prop} {X24 X99 : Ct} (EN : EX x E) (G : Gd x cX5_composed "ChantRulesModel" yX5_composed 4 (Option.some Jvm.ClassFile.FieldType.int) Q) (hF : x.1.2.2.2.frames = 5 ∧ x.1.2.2.2.locals = 140) (hC : x.2.2.2.2.2 = (fun _ => false)) (hxt : (∀ z ∈ x.2.2.1.2.1.exceptionTable.toList, False)) (h24 : Snd x 24 X24) (h99 : Snd x 99 X99) : Snd x 97 (bX5_composed_97 E Q X24 X99) := by
  unfold bX5_composed_97
  refine s_iconst (by decide) G.b dX5_composed_97 ?_
  refine s_istore_n rfl G.b (by rw [G.nl]; decide) (fun _ _ => by rw [hC]) dX5_composed_98 ?_
  exact h99
set_option maxHeartbeats 4000000 in
theorem tX5_composed_89 {x : CX} {E : Nat → Value} {Q : Rs → HS → Prop} {X24 X99 : Ct} (EN : EX x E) (G : Gd x cX5_composed "ChantRulesModel" yX5_composed 4 (Option.some Jvm.ClassFile.FieldType.int) Q) (hF : x.1.2.2.2.frames = 5 ∧ x.1.2.2.2.locals = 140) (hC : x.2.2.2.2.2 = (fun _ => false)) (hxt : (∀ z ∈ x.2.2.1.2.1.exceptionTable.toList, False)) (h24 : Snd x 24 X24) (h99 : Snd x 99 X99) : Snd x 89 (bX5_composed_89 E Q X24 X99) := by
  unfold bX5_composed_89
  refine s_iadd G.b dX5_composed_89 ?_
  refine s_istore_n rfl G.b (by rw [G.nl]; decide) (fun _ _ => by rw [hC]) dX5_composed_90 ?_
  refine s_iinc (by decide) G.b (by rw [G.nl]; decide) (fun _ _ => by rw [hC]) dX5_composed_91 ?_
  exact s_goto (tgt := 24) G.b dX5_composed_94 (by decide) h24
set_option maxHeartbeats 4000000 in
theorem tX5_composed_83 {x : CX} {E : Nat → Value} {Q : Rs → HS → Prop} {X24 X99 : Ct} (EN : EX x E) (G : Gd x cX5_composed "ChantRulesModel" yX5_composed 4 (Option.some Jvm.ClassFile.FieldType.int) Q) (hF : x.1.2.2.2.frames = 5 ∧ x.1.2.2.2.locals = 140) (hC : x.2.2.2.2.2 = (fun _ => false)) (hxt : (∀ z ∈ x.2.2.1.2.1.exceptionTable.toList, False)) (h24 : Snd x 24 X24) (h99 : Snd x 99 X99) : Snd x 83 (bX5_composed_83 E Q X24 X99) := by
  unfold bX5_composed_83
  refine s_aload_n rfl G.b dX5_composed_83 ?_
  refine s_getf G.b G.ow G.kn (G.hts _ q1922) (fun _ h => h) fa_74 dX5_composed_84 ?_
  refine s_iload_n rfl G.b dX5_composed_87 ?_
  refine s_iald G.b G.kn dX5_composed_88 ?_
  exact (tX5_composed_89 EN G hF hC hxt h24 h99)
set_option maxHeartbeats 4000000 in
theorem tX5_composed_70 {x : CX} {E : Nat → Value} {Q : Rs → HS → Prop} {X24 X99 : Ct} (EN : EX x E) (G : Gd x cX5_composed "ChantRulesModel" yX5_composed 4 (Option.some Jvm.ClassFile.FieldType.int) Q) (hF : x.1.2.2.2.frames = 5 ∧ x.1.2.2.2.locals = 140) (hC : x.2.2.2.2.2 = (fun _ => false)) (hxt : (∀ z ∈ x.2.2.1.2.1.exceptionTable.toList, False)) (h24 : Snd x 24 X24) (h99 : Snd x 99 X99) : Snd x 70 (bX5_composed_70 E Q X24 X99) := by
  unfold bX5_composed_70
  refine s_aload_n rfl G.b dX5_composed_70 ?_
  refine s_getf G.b G.ow G.kn (G.hts _ q1919) (fun _ h => h) fa_92 dX5_composed_71 ?_
  refine s_iload_n rfl G.b dX5_composed_74 ?_
  refine s_iald G.b G.kn dX5_composed_75 ?_
  refine s_ifge (tgt := 83) G.b dX5_composed_76 (by decide) (tX5_composed_83 EN G hF hC hxt h24 h99) ?_
  refine s_iconst (by decide) G.b dX5_composed_79 ?_
  exact s_goto (tgt := 89) G.b dX5_composed_80 (by decide) (tX5_composed_89 EN G hF hC hxt h24 h99)
set_option maxHeartbeats 4000000 in
theorem tX5_composed_56 {x : CX} {E : Nat → Value} {Q : Rs → HS → Prop} {X24 X99 : Ct} (EN : EX x E) (G : Gd x cX5_composed "ChantRulesModel" yX5_composed 4 (Option.some Jvm.ClassFile.FieldType.int) Q) (hF : x.1.2.2.2.frames = 5 ∧ x.1.2.2.2.locals = 140) (hC : x.2.2.2.2.2 = (fun _ => false)) (hxt : (∀ z ∈ x.2.2.1.2.1.exceptionTable.toList, False)) (h24 : Snd x 24 X24) (h99 : Snd x 99 X99) : Snd x 56 (bX5_composed_56 E Q X24 X99) := by
  unfold bX5_composed_56
  refine s_iload_n rfl G.b dX5_composed_56 ?_
  refine s_iconst (by decide) G.b dX5_composed_57 ?_
  refine s_icmpne (tgt := 70) G.b dX5_composed_58 (by decide) (tX5_composed_70 EN G hF hC hxt h24 h99) ?_
  refine s_aload_n rfl G.b dX5_composed_61 ?_
  refine s_getf G.b G.ow G.kn (G.hts _ q1923) (fun _ h => h) fa_75 dX5_composed_62 ?_
  refine s_iload_n rfl G.b dX5_composed_65 ?_
  refine s_iald G.b G.kn dX5_composed_66 ?_
  exact s_goto (tgt := 89) G.b dX5_composed_67 (by decide) (tX5_composed_89 EN G hF hC hxt h24 h99)
set_option maxHeartbeats 4000000 in
theorem tX5_composed_24 {x : CX} {E : Nat → Value} {Q : Rs → HS → Prop} {X24 X99 : Ct} (EN : EX x E) (G : Gd x cX5_composed "ChantRulesModel" yX5_composed 4 (Option.some Jvm.ClassFile.FieldType.int) Q) (hF : x.1.2.2.2.frames = 5 ∧ x.1.2.2.2.locals = 140) (hC : x.2.2.2.2.2 = (fun _ => false)) (hxt : (∀ z ∈ x.2.2.1.2.1.exceptionTable.toList, False)) (h24 : Snd x 24 X24) (h99 : Snd x 99 X99) : Snd x 24 (bX5_composed_24 E Q X24 X99) := by
  unfold bX5_composed_24
  refine s_iload_n rfl G.b dX5_composed_24 ?_
  refine s_aload_n rfl G.b dX5_composed_25 ?_
  refine s_getf G.b G.ow G.kn (G.hts _ q1921) (fun _ h => h) fa_100 dX5_composed_26 ?_
  refine s_icmpge (tgt := 97) G.b dX5_composed_29 (by decide) (tX5_composed_97 EN G hF hC hxt h24 h99) ?_
  refine s_iload_n rfl G.b dX5_composed_32 ?_
  refine s_iconst (by decide) G.b dX5_composed_33 ?_
  refine s_icmpeq (tgt := 97) G.b dX5_composed_34 (by decide) (tX5_composed_97 EN G hF hC hxt h24 h99) ?_
  refine s_iload_n rfl G.b dX5_composed_37 ?_
  refine s_iconst (by decide) G.b dX5_composed_38 ?_
  refine s_icmpeq (tgt := 97) G.b dX5_composed_39 (by decide) (tX5_composed_97 EN G hF hC hxt h24 h99) ?_
  refine s_iload_n rfl G.b dX5_composed_42 ?_
  refine s_iload_n rfl G.b dX5_composed_43 ?_
  refine s_ifne (tgt := 56) G.b dX5_composed_44 (by decide) (tX5_composed_56 EN G hF hC hxt h24 h99) ?_
  refine s_aload_n rfl G.b dX5_composed_47 ?_
  refine s_getf G.b G.ow G.kn (G.hts _ q1922) (fun _ h => h) fa_74 dX5_composed_48 ?_
  refine s_iload_n rfl G.b dX5_composed_51 ?_
  refine s_iald G.b G.kn dX5_composed_52 ?_
  exact s_goto (tgt := 89) G.b dX5_composed_53 (by decide) (tX5_composed_89 EN G hF hC hxt h24 h99)
set_option maxHeartbeats 4000000 in
theorem tX5_composed_12 {x : CX} {E : Nat → Value} {Q : Rs → HS → Prop} {X24 X99 : Ct} (EN : EX x E) (G : Gd x cX5_composed "ChantRulesModel" yX5_composed 4 (Option.some Jvm.ClassFile.FieldType.int) Q) (hF : x.1.2.2.2.frames = 5 ∧ x.1.2.2.2.locals = 140) (hC : x.2.2.2.2.2 = (fun _ => false)) (hxt : (∀ z ∈ x.2.2.1.2.1.exceptionTable.toList, False)) (h24 : Snd x 24 X24) (h99 : Snd x 99 X99) : Snd x 12 (bX5_composed_12 E Q X24 X99) := by
  unfold bX5_composed_12
  refine s_aload_n rfl G.b dX5_composed_12 ?_
  refine s_callV G (mX5_laysBoth EN) q2182 q2184 (sel_cons (r := (RX5, TX5, 37)) (by decide) rfl qs59 (sel_nil)) q90 q2185 nmk_269 (rm_of hF (Nat.le_of_ble_eq_true rfl) (Nat.le_of_ble_eq_true rfl)) dX5_composed_13 ?_ (sx_out G (fun z hz => (hxt z hz).elim))
  refine s_aload_n rfl G.b dX5_composed_16 ?_
  refine s_callV G (mX5_finds EN) q2126 q2128 (sel_cons (r := (RX5, TX5, 37)) (by decide) rfl qs48 (sel_nil)) q90 q2129 nmk_275 (rm_of hF (Nat.le_of_ble_eq_true rfl) (Nat.le_of_ble_eq_true rfl)) dX5_composed_17 ?_ (sx_out G (fun z hz => (hxt z hz).elim))
  refine s_iconst (by decide) G.b dX5_composed_20 ?_
  refine s_istore_n rfl G.b (by rw [G.nl]; decide) (fun _ _ => by rw [hC]) dX5_composed_21 ?_
  refine s_iconst (by decide) G.b dX5_composed_22 ?_
  refine s_istore_n rfl G.b (by rw [G.nl]; decide) (fun _ _ => by rw [hC]) dX5_composed_23 ?_
  exact h24
set_option maxHeartbeats 4000000 in
theorem tX5_composed_0 {x : CX} {E : Nat → Value} {Q : Rs → HS → Prop} {X24 X99 : Ct} (EN : EX x E) (G : Gd x cX5_composed "ChantRulesModel" yX5_composed 4 (Option.some Jvm.ClassFile.FieldType.int) Q) (hF : x.1.2.2.2.frames = 5 ∧ x.1.2.2.2.locals = 140) (hC : x.2.2.2.2.2 = (fun _ => false)) (hxt : (∀ z ∈ x.2.2.1.2.1.exceptionTable.toList, False)) (h24 : Snd x 24 X24) (h99 : Snd x 99 X99) : Snd x 0 (bX5_composed_0 E Q X24 X99) := by
  unfold bX5_composed_0
  refine s_iload_n rfl G.b dX5_composed_0 ?_
  refine s_iconst (by decide) G.b dX5_composed_1 ?_
  refine s_iconst (by decide) G.b dX5_composed_2 ?_
  refine s_callS G (mX5_isIn EN) q2033 q2034 q90 q2035 nmk_251 (rm_of hF (Nat.le_of_ble_eq_true rfl) (Nat.le_of_ble_eq_true rfl)) dX5_composed_3 ?_ (sx_out G (fun z hz => (hxt z hz).elim))
  refine s_ifne (tgt := 12) G.b dX5_composed_6 (by decide) (tX5_composed_12 EN G hF hC hxt h24 h99) ?_
  refine s_bipush (by decide) G.b dX5_composed_9 ?_
  exact s_ireturn G dX5_composed_11
set_option maxHeartbeats 4000000 in
theorem mX5_composed {l : Launch} {D : DE} {s0 : State} {E : Nat → Value} (EN : EV l D s0 E) : rMet l D s0 yX5_composed (ws_ yX5_composed cX5_composed 4 (Option.some Jvm.ClassFile.FieldType.int)) 5 140 (wX5_composed E) := by
  refine body_met (fun _ => false) EN.kn (fun w h => h) (by decide +kernel) rfl (fun av h Q hw => ?_) ?_
  · unfold wX5_composed at hw
    split at hw
    · exact Nat.le_of_ble_eq_true rfl
    · exact hw.elim
  · intro p e s m below meth c av h Q hxt G hw
    unfold wX5_composed at hw
    split at hw
    · exact tX5_composed_0 EN G ⟨rfl, rfl⟩ rfl hxt (fun _ _ _ h => h) (fun _ _ _ h => h) _ _ _ (hw (AW _ 24) (AW _ 99) (tX5_composed_24 EN G ⟨rfl, rfl⟩ rfl hxt (fun _ _ _ h => h) (fun _ _ _ h => h)) (tX5_composed_99 EN G ⟨rfl, rfl⟩ rfl hxt (fun _ _ _ h => h) (fun _ _ _ h => h)))
    · exact hw.elim
/-! ChantRulesModel.drops(II)I (X5_drops) -/
def bX5_drops_54 (E : Nat → Value) (Q : Rs → HS → Prop) (X23 : Ct) : Ct :=
  o_aload 0 <|
  o_getf [8] 7 <|
  o_push (.int 2) <|
  o_iload 1 <|
  o_iadd <|
  o_dup2 <|
  o_ald [100] <|
  o_push (.int 1) <|
  o_isub <|
  o_ast [(100, .int)] <|
  o_aload 0 <|
  o_getf [8] 7 <|
  o_push (.int 15) <|
  o_dup2 <|
  o_ald [100] <|
  o_push (.int 1) <|
  o_iadd <|
  o_ast [(100, .int)] <|
  o_aload 0 <|
  o_getf [8] 7 <|
  o_push (.int 2) <|
  o_iload 1 <|
  o_iadd <|
  o_ald [100] <|
  o_ireturn .int Q
def bX5_drops_23 (E : Nat → Value) (Q : Rs → HS → Prop) (X23 : Ct) : Ct :=
  o_iload 3 <|
  o_iload 1 <|
  o_push (.int 11) <|
  o_push (.int 0) <|
  o_call 3 (wX5_of E) (x_out Q) <|
  o_icmpge (bX5_drops_54 E Q X23) <|
  o_aload 0 <|
  o_getf [8] 7 <|
  o_iload 3 <|
  o_aload 0 <|
  o_getf [8] 7 <|
  o_iload 3 <|
  o_push (.int 5) <|
  o_iadd <|
  o_ald [100] <|
  o_ast [(100, .int)] <|
  o_iinc 3 1 <|
  X23
def bX5_drops_16 (E : Nat → Value) (Q : Rs → HS → Prop) (X23 : Ct) : Ct :=
  o_iload 1 <|
  o_iload 2 <|
  o_push (.int 0) <|
  o_call 3 (wX5_of E) (x_out Q) <|
  o_istore 3 <|
  X23
def bX5_drops_0 (E : Nat → Value) (Q : Rs → HS → Prop) (X23 : Ct) : Ct :=
  o_aload 0 <|
  o_iload 1 <|
  o_iload 2 <|
  o_callV [8] 3 (wX5_isArc E) (x_out Q) <|
  o_ifne (bX5_drops_16 E Q X23) <|
  o_aload 0 <|
  o_push (.int (-11)) <|
  o_callV [8] 2 (wX5_fail E) (x_out Q) <|
  o_ireturn .int Q
def wX5_drops (E : Nat → Value) : Wp := fun av h Q => match av with
  | [a0, a1, a2] => ∀ X23 : Ct, (∀ ls st h, bX5_drops_23 E Q X23 ls st h → X23 ls st h) → bX5_drops_0 E Q X23 [a0, a1, a2, jk] [] h
  | _ => False
set_option maxHeartbeats 4000000 in
theorem tX5_drops_54 {x : CX} {E : Nat → Value} {Q : Rs → HS → Prop} {X23 : Ct} (EN : EX x E) (G : Gd x cX5_drops "ChantRulesModel" yX5_drops 4 (Option.some Jvm.ClassFile.FieldType.int) Q) (hF : x.1.2.2.2.frames = 5 ∧ x.1.2.2.2.locals = 128) (hC : x.2.2.2.2.2 = (fun _ => false)) (hxt : (∀ z ∈ x.2.2.1.2.1.exceptionTable.toList, False)) (h23 : Snd x 23 X23) : Snd x 54 (bX5_drops_54 E Q X23) := by
  unfold bX5_drops_54
  refine s_aload_n rfl G.b dX5_drops_54 ?_
  refine s_getf G.b G.ow G.kn (G.hts _ q1910) (fun _ h => h) fa_73 dX5_drops_55 ?_
  refine s_iconst (by decide) G.b dX5_drops_58 ?_
  refine s_iload_n rfl G.b dX5_drops_59 ?_
  refine s_iadd G.b dX5_drops_60 ?_
  refine s_dup2 G.b dX5_drops_61 ?_
  refine s_iald G.b G.kn dX5_drops_62 ?_
  refine s_iconst (by decide) G.b dX5_drops_63 ?_
  refine s_isub G.b dX5_drops_64 ?_
  refine s_iast G.b G.kn dX5_drops_65 ?_
  refine s_aload_n rfl G.b dX5_drops_66 ?_
  refine s_getf G.b G.ow G.kn (G.hts _ q1910) (fun _ h => h) fa_73 dX5_drops_67 ?_
  refine s_bipush (by decide) G.b dX5_drops_70 ?_
  refine s_dup2 G.b dX5_drops_72 ?_
  refine s_iald G.b G.kn dX5_drops_73 ?_
  refine s_iconst (by decide) G.b dX5_drops_74 ?_
  refine s_iadd G.b dX5_drops_75 ?_
  refine s_iast G.b G.kn dX5_drops_76 ?_
  refine s_aload_n rfl G.b dX5_drops_77 ?_
  refine s_getf G.b G.ow G.kn (G.hts _ q1910) (fun _ h => h) fa_73 dX5_drops_78 ?_
  refine s_iconst (by decide) G.b dX5_drops_81 ?_
  refine s_iload_n rfl G.b dX5_drops_82 ?_
  refine s_iadd G.b dX5_drops_83 ?_
  refine s_iald G.b G.kn dX5_drops_84 ?_
  exact s_ireturn G dX5_drops_85
set_option maxHeartbeats 4000000 in
theorem tX5_drops_23 {x : CX} {E : Nat → Value} {Q : Rs → HS → Prop} {X23 : Ct} (EN : EX x E) (G : Gd x cX5_drops "ChantRulesModel" yX5_drops 4 (Option.some Jvm.ClassFile.FieldType.int) Q) (hF : x.1.2.2.2.frames = 5 ∧ x.1.2.2.2.locals = 128) (hC : x.2.2.2.2.2 = (fun _ => false)) (hxt : (∀ z ∈ x.2.2.1.2.1.exceptionTable.toList, False)) (h23 : Snd x 23 X23) : Snd x 23 (bX5_drops_23 E Q X23) := by
  unfold bX5_drops_23
  refine s_iload_n rfl G.b dX5_drops_23 ?_
  refine s_iload_n rfl G.b dX5_drops_24 ?_
  refine s_bipush (by decide) G.b dX5_drops_25 ?_
  refine s_iconst (by decide) G.b dX5_drops_27 ?_
  refine s_callS G (mX5_of EN) q2079 q2080 q90 q2081 nmk_248 (rm_of hF (Nat.le_of_ble_eq_true rfl) (Nat.le_of_ble_eq_true rfl)) dX5_drops_28 ?_ (sx_out G (fun z hz => (hxt z hz).elim))
  refine s_icmpge (tgt := 54) G.b dX5_drops_31 (by decide) (tX5_drops_54 EN G hF hC hxt h23) ?_
  refine s_aload_n rfl G.b dX5_drops_34 ?_
  refine s_getf G.b G.ow G.kn (G.hts _ q1910) (fun _ h => h) fa_73 dX5_drops_35 ?_
  refine s_iload_n rfl G.b dX5_drops_38 ?_
  refine s_aload_n rfl G.b dX5_drops_39 ?_
  refine s_getf G.b G.ow G.kn (G.hts _ q1910) (fun _ h => h) fa_73 dX5_drops_40 ?_
  refine s_iload_n rfl G.b dX5_drops_43 ?_
  refine s_iconst (by decide) G.b dX5_drops_44 ?_
  refine s_iadd G.b dX5_drops_45 ?_
  refine s_iald G.b G.kn dX5_drops_46 ?_
  refine s_iast G.b G.kn dX5_drops_47 ?_
  refine s_iinc (by decide) G.b (by rw [G.nl]; decide) (fun _ _ => by rw [hC]) dX5_drops_48 ?_
  exact s_goto (tgt := 23) G.b dX5_drops_51 (by decide) h23
set_option maxHeartbeats 4000000 in
theorem tX5_drops_16 {x : CX} {E : Nat → Value} {Q : Rs → HS → Prop} {X23 : Ct} (EN : EX x E) (G : Gd x cX5_drops "ChantRulesModel" yX5_drops 4 (Option.some Jvm.ClassFile.FieldType.int) Q) (hF : x.1.2.2.2.frames = 5 ∧ x.1.2.2.2.locals = 128) (hC : x.2.2.2.2.2 = (fun _ => false)) (hxt : (∀ z ∈ x.2.2.1.2.1.exceptionTable.toList, False)) (h23 : Snd x 23 X23) : Snd x 16 (bX5_drops_16 E Q X23) := by
  unfold bX5_drops_16
  refine s_iload_n rfl G.b dX5_drops_16 ?_
  refine s_iload_n rfl G.b dX5_drops_17 ?_
  refine s_iconst (by decide) G.b dX5_drops_18 ?_
  refine s_callS G (mX5_of EN) q2079 q2080 q90 q2081 nmk_248 (rm_of hF (Nat.le_of_ble_eq_true rfl) (Nat.le_of_ble_eq_true rfl)) dX5_drops_19 ?_ (sx_out G (fun z hz => (hxt z hz).elim))
  refine s_istore_n rfl G.b (by rw [G.nl]; decide) (fun _ _ => by rw [hC]) dX5_drops_22 ?_
  exact h23
set_option maxHeartbeats 4000000 in
theorem tX5_drops_0 {x : CX} {E : Nat → Value} {Q : Rs → HS → Prop} {X23 : Ct} (EN : EX x E) (G : Gd x cX5_drops "ChantRulesModel" yX5_drops 4 (Option.some Jvm.ClassFile.FieldType.int) Q) (hF : x.1.2.2.2.frames = 5 ∧ x.1.2.2.2.locals = 128) (hC : x.2.2.2.2.2 = (fun _ => false)) (hxt : (∀ z ∈ x.2.2.1.2.1.exceptionTable.toList, False)) (h23 : Snd x 23 X23) : Snd x 0 (bX5_drops_0 E Q X23) := by
  unfold bX5_drops_0
  refine s_aload_n rfl G.b dX5_drops_0 ?_
  refine s_iload_n rfl G.b dX5_drops_1 ?_
  refine s_iload_n rfl G.b dX5_drops_2 ?_
  refine s_callV G (mX5_isArc EN) q2090 q2092 (sel_cons (r := (RX5, TX5, 37)) (by decide) rfl qs43 (sel_nil)) q90 q2093 nmk_261 (rm_of hF (Nat.le_of_ble_eq_true rfl) (Nat.le_of_ble_eq_true rfl)) dX5_drops_3 ?_ (sx_out G (fun z hz => (hxt z hz).elim))
  refine s_ifne (tgt := 16) G.b dX5_drops_6 (by decide) (tX5_drops_16 EN G hF hC hxt h23) ?_
  refine s_aload_n rfl G.b dX5_drops_9 ?_
  refine s_bipush (by decide) G.b dX5_drops_10 ?_
  refine s_callV G (mX5_fail EN) q2036 q2038 (sel_cons (r := (RX5, TX5, 37)) (by decide) rfl qs34 (sel_nil)) q90 q2039 nmk_254 (rm_of hF (Nat.le_of_ble_eq_true rfl) (Nat.le_of_ble_eq_true rfl)) dX5_drops_12 ?_ (sx_out G (fun z hz => (hxt z hz).elim))
  exact s_ireturn G dX5_drops_15
set_option maxHeartbeats 4000000 in
theorem mX5_drops {l : Launch} {D : DE} {s0 : State} {E : Nat → Value} (EN : EV l D s0 E) : rMet l D s0 yX5_drops (ws_ yX5_drops cX5_drops 4 (Option.some Jvm.ClassFile.FieldType.int)) 5 128 (wX5_drops E) := by
  refine body_met (fun _ => false) EN.kn (fun w h => h) (by decide +kernel) rfl (fun av h Q hw => ?_) ?_
  · unfold wX5_drops at hw
    split at hw
    · exact Nat.le_of_ble_eq_true rfl
    · exact hw.elim
  · intro p e s m below meth c av h Q hxt G hw
    unfold wX5_drops at hw
    split at hw
    · exact tX5_drops_0 EN G ⟨rfl, rfl⟩ rfl hxt (fun _ _ _ h => h) _ _ _ (hw (AW _ 23) (tX5_drops_23 EN G ⟨rfl, rfl⟩ rfl hxt (fun _ _ _ h => h)))
    · exact hw.elim
/-! ChantRulesModel.drop(II)I (X5_drop) -/
theorem nmk_278 : nm_ok yX5_drops 2 := ⟨by decide +kernel, by decide +kernel, by decide +kernel⟩
def bX5_drop_0 (E : Nat → Value) (Q : Rs → HS → Prop) : Ct :=
  o_aload 0 <|
  o_callV [8] 1 (wX5_begins E) (x_out Q) <|
  o_aload 0 <|
  o_aload 0 <|
  o_iload 1 <|
  o_iload 2 <|
  o_callV [8] 3 (wX5_drops E) (x_out Q) <|
  o_callV [8] 2 (wX5_ends E) (x_out Q) <|
  o_ireturn .int Q
def wX5_drop (E : Nat → Value) : Wp := fun av h Q => match av with
  | [a0, a1, a2] => bX5_drop_0 E Q [a0, a1, a2] [] h
  | _ => False
set_option maxHeartbeats 4000000 in
theorem tX5_drop_0 {x : CX} {E : Nat → Value} {Q : Rs → HS → Prop} (EN : EX x E) (G : Gd x cX5_drop "ChantRulesModel" yX5_drop 3 (Option.some Jvm.ClassFile.FieldType.int) Q) (hF : x.1.2.2.2.frames = 6 ∧ x.1.2.2.2.locals = 151) (hC : x.2.2.2.2.2 = (fun _ => false)) (hxt : (∀ z ∈ x.2.2.1.2.1.exceptionTable.toList, False)) : Snd x 0 (bX5_drop_0 E Q) := by
  unfold bX5_drop_0
  refine s_aload_n rfl G.b dX5_drop_0 ?_
  refine s_callV G (mX5_begins EN) q2019 q2021 (sel_cons (r := (RX5, TX5, 37)) (by decide) rfl qs32 (sel_nil)) q90 q2022 nmk_258 (rm_of hF (Nat.le_of_ble_eq_true rfl) (Nat.le_of_ble_eq_true rfl)) dX5_drop_1 ?_ (sx_out G (fun z hz => (hxt z hz).elim))
  refine s_aload_n rfl G.b dX5_drop_4 ?_
  refine s_aload_n rfl G.b dX5_drop_5 ?_
  refine s_iload_n rfl G.b dX5_drop_6 ?_
  refine s_iload_n rfl G.b dX5_drop_7 ?_
  refine s_callV G (mX5_drops EN) q2098 q2100 (sel_cons (r := (RX5, TX5, 37)) (by decide) rfl qs44 (sel_nil)) q90 q2101 nmk_278 (rm_of hF (Nat.le_of_ble_eq_true rfl) (Nat.le_of_ble_eq_true rfl)) dX5_drop_8 ?_ (sx_out G (fun z hz => (hxt z hz).elim))
  refine s_callV G (mX5_ends EN) q2047 q2049 (sel_cons (r := (RX5, TX5, 37)) (by decide) rfl qs36 (sel_nil)) q90 q2050 nmk_260 (rm_of hF (Nat.le_of_ble_eq_true rfl) (Nat.le_of_ble_eq_true rfl)) dX5_drop_11 ?_ (sx_out G (fun z hz => (hxt z hz).elim))
  exact s_ireturn G dX5_drop_14
set_option maxHeartbeats 4000000 in
theorem mX5_drop {l : Launch} {D : DE} {s0 : State} {E : Nat → Value} (EN : EV l D s0 E) : rMet l D s0 yX5_drop (ws_ yX5_drop cX5_drop 3 (Option.some Jvm.ClassFile.FieldType.int)) 6 151 (wX5_drop E) := by
  refine body_met (fun _ => false) EN.kn (fun w h => h) (by decide +kernel) rfl (fun av h Q hw => ?_) ?_
  · unfold wX5_drop at hw
    split at hw
    · exact Nat.le_of_ble_eq_true rfl
    · exact hw.elim
  · intro p e s m below meth c av h Q hxt G hw
    unfold wX5_drop at hw
    split at hw
    · exact tX5_drop_0 EN G ⟨rfl, rfl⟩ rfl hxt _ _ _ hw
    · exact hw.elim
/-! ChantRulesModel.setsEnd(III)I (X5_setsEnd) -/
def bX5_setsEnd_54 (E : Nat → Value) (Q : Rs → HS → Prop) : Ct :=
  o_aload 0 <|
  o_getf [8] 7 <|
  o_iload 1 <|
  o_iload 2 <|
  o_call 2 (wX5_endAt E) (x_out Q) <|
  o_iload 3 <|
  o_ast [(100, .int)] <|
  o_aload 0 <|
  o_iload 1 <|
  o_callV [8] 2 (wX5_endsOf E) (x_out Q) <|
  o_ireturn .int Q
def bX5_setsEnd_33 (E : Nat → Value) (Q : Rs → HS → Prop) : Ct :=
  o_aload 0 <|
  o_getf [8] 7 <|
  o_iload 1 <|
  o_iload 2 <|
  o_call 2 (wX5_endAt E) (x_out Q) <|
  o_ald [100] <|
  o_iload 3 <|
  o_icmpne (bX5_setsEnd_54 E Q) <|
  o_aload 0 <|
  o_push (.int 3) <|
  o_iload 2 <|
  o_callV [8] 3 (wX5_refuses E) (x_out Q) <|
  o_ireturn .int Q
def bX5_setsEnd_16 (E : Nat → Value) (Q : Rs → HS → Prop) : Ct :=
  o_iload 3 <|
  o_push (.int (-1)) <|
  o_push (.int 9) <|
  o_call 3 (wX5_isIn E) (x_out Q) <|
  o_ifne (bX5_setsEnd_33 E Q) <|
  o_aload 0 <|
  o_push (.int (-12)) <|
  o_callV [8] 2 (wX5_fail E) (x_out Q) <|
  o_ireturn .int Q
def bX5_setsEnd_0 (E : Nat → Value) (Q : Rs → HS → Prop) : Ct :=
  o_aload 0 <|
  o_iload 1 <|
  o_iload 2 <|
  o_callV [8] 3 (wX5_isState E) (x_out Q) <|
  o_ifne (bX5_setsEnd_16 E Q) <|
  o_aload 0 <|
  o_push (.int (-11)) <|
  o_callV [8] 2 (wX5_fail E) (x_out Q) <|
  o_ireturn .int Q
def wX5_setsEnd (E : Nat → Value) : Wp := fun av h Q => match av with
  | [a0, a1, a2, a3] => bX5_setsEnd_0 E Q [a0, a1, a2, a3] [] h
  | _ => False
set_option maxHeartbeats 4000000 in
theorem tX5_setsEnd_54 {x : CX} {E : Nat → Value} {Q : Rs → HS → Prop} (EN : EX x E) (G : Gd x cX5_setsEnd "ChantRulesModel" yX5_setsEnd 4 (Option.some Jvm.ClassFile.FieldType.int) Q) (hF : x.1.2.2.2.frames = 5 ∧ x.1.2.2.2.locals = 128) (hC : x.2.2.2.2.2 = (fun _ => false)) (hxt : (∀ z ∈ x.2.2.1.2.1.exceptionTable.toList, False)) : Snd x 54 (bX5_setsEnd_54 E Q) := by
  unfold bX5_setsEnd_54
  refine s_aload_n rfl G.b dX5_setsEnd_54 ?_
  refine s_getf G.b G.ow G.kn (G.hts _ q1910) (fun _ h => h) fa_73 dX5_setsEnd_55 ?_
  refine s_iload_n rfl G.b dX5_setsEnd_58 ?_
  refine s_iload_n rfl G.b dX5_setsEnd_59 ?_
  refine s_callS G (mX5_endAt EN) q2044 q2045 q90 q2046 nmk_247 (rm_of hF (Nat.le_of_ble_eq_true rfl) (Nat.le_of_ble_eq_true rfl)) dX5_setsEnd_60 ?_ (sx_out G (fun z hz => (hxt z hz).elim))
  refine s_iload_n rfl G.b dX5_setsEnd_63 ?_
  refine s_iast G.b G.kn dX5_setsEnd_64 ?_
  refine s_aload_n rfl G.b dX5_setsEnd_65 ?_
  refine s_iload_n rfl G.b dX5_setsEnd_66 ?_
  refine s_callV G (mX5_endsOf EN) q2063 q2065 (sel_cons (r := (RX5, TX5, 37)) (by decide) rfl qs39 (sel_nil)) q90 q2066 nmk_250 (rm_of hF (Nat.le_of_ble_eq_true rfl) (Nat.le_of_ble_eq_true rfl)) dX5_setsEnd_67 ?_ (sx_out G (fun z hz => (hxt z hz).elim))
  exact s_ireturn G dX5_setsEnd_70
set_option maxHeartbeats 4000000 in
theorem tX5_setsEnd_33 {x : CX} {E : Nat → Value} {Q : Rs → HS → Prop} (EN : EX x E) (G : Gd x cX5_setsEnd "ChantRulesModel" yX5_setsEnd 4 (Option.some Jvm.ClassFile.FieldType.int) Q) (hF : x.1.2.2.2.frames = 5 ∧ x.1.2.2.2.locals = 128) (hC : x.2.2.2.2.2 = (fun _ => false)) (hxt : (∀ z ∈ x.2.2.1.2.1.exceptionTable.toList, False)) : Snd x 33 (bX5_setsEnd_33 E Q) := by
  unfold bX5_setsEnd_33
  refine s_aload_n rfl G.b dX5_setsEnd_33 ?_
  refine s_getf G.b G.ow G.kn (G.hts _ q1910) (fun _ h => h) fa_73 dX5_setsEnd_34 ?_
  refine s_iload_n rfl G.b dX5_setsEnd_37 ?_
  refine s_iload_n rfl G.b dX5_setsEnd_38 ?_
  refine s_callS G (mX5_endAt EN) q2044 q2045 q90 q2046 nmk_247 (rm_of hF (Nat.le_of_ble_eq_true rfl) (Nat.le_of_ble_eq_true rfl)) dX5_setsEnd_39 ?_ (sx_out G (fun z hz => (hxt z hz).elim))
  refine s_iald G.b G.kn dX5_setsEnd_42 ?_
  refine s_iload_n rfl G.b dX5_setsEnd_43 ?_
  refine s_icmpne (tgt := 54) G.b dX5_setsEnd_44 (by decide) (tX5_setsEnd_54 EN G hF hC hxt) ?_
  refine s_aload_n rfl G.b dX5_setsEnd_47 ?_
  refine s_iconst (by decide) G.b dX5_setsEnd_48 ?_
  refine s_iload_n rfl G.b dX5_setsEnd_49 ?_
  refine s_callV G (mX5_refuses EN) q2040 q2042 (sel_cons (r := (RX5, TX5, 37)) (by decide) rfl qs35 (sel_nil)) q90 q2043 nmk_255 (rm_of hF (Nat.le_of_ble_eq_true rfl) (Nat.le_of_ble_eq_true rfl)) dX5_setsEnd_50 ?_ (sx_out G (fun z hz => (hxt z hz).elim))
  exact s_ireturn G dX5_setsEnd_53
set_option maxHeartbeats 4000000 in
theorem tX5_setsEnd_16 {x : CX} {E : Nat → Value} {Q : Rs → HS → Prop} (EN : EX x E) (G : Gd x cX5_setsEnd "ChantRulesModel" yX5_setsEnd 4 (Option.some Jvm.ClassFile.FieldType.int) Q) (hF : x.1.2.2.2.frames = 5 ∧ x.1.2.2.2.locals = 128) (hC : x.2.2.2.2.2 = (fun _ => false)) (hxt : (∀ z ∈ x.2.2.1.2.1.exceptionTable.toList, False)) : Snd x 16 (bX5_setsEnd_16 E Q) := by
  unfold bX5_setsEnd_16
  refine s_iload_n rfl G.b dX5_setsEnd_16 ?_
  refine s_iconst (by decide) G.b dX5_setsEnd_17 ?_
  refine s_bipush (by decide) G.b dX5_setsEnd_18 ?_
  refine s_callS G (mX5_isIn EN) q2033 q2034 q90 q2035 nmk_251 (rm_of hF (Nat.le_of_ble_eq_true rfl) (Nat.le_of_ble_eq_true rfl)) dX5_setsEnd_20 ?_ (sx_out G (fun z hz => (hxt z hz).elim))
  refine s_ifne (tgt := 33) G.b dX5_setsEnd_23 (by decide) (tX5_setsEnd_33 EN G hF hC hxt) ?_
  refine s_aload_n rfl G.b dX5_setsEnd_26 ?_
  refine s_bipush (by decide) G.b dX5_setsEnd_27 ?_
  refine s_callV G (mX5_fail EN) q2036 q2038 (sel_cons (r := (RX5, TX5, 37)) (by decide) rfl qs34 (sel_nil)) q90 q2039 nmk_254 (rm_of hF (Nat.le_of_ble_eq_true rfl) (Nat.le_of_ble_eq_true rfl)) dX5_setsEnd_29 ?_ (sx_out G (fun z hz => (hxt z hz).elim))
  exact s_ireturn G dX5_setsEnd_32
set_option maxHeartbeats 4000000 in
theorem tX5_setsEnd_0 {x : CX} {E : Nat → Value} {Q : Rs → HS → Prop} (EN : EX x E) (G : Gd x cX5_setsEnd "ChantRulesModel" yX5_setsEnd 4 (Option.some Jvm.ClassFile.FieldType.int) Q) (hF : x.1.2.2.2.frames = 5 ∧ x.1.2.2.2.locals = 128) (hC : x.2.2.2.2.2 = (fun _ => false)) (hxt : (∀ z ∈ x.2.2.1.2.1.exceptionTable.toList, False)) : Snd x 0 (bX5_setsEnd_0 E Q) := by
  unfold bX5_setsEnd_0
  refine s_aload_n rfl G.b dX5_setsEnd_0 ?_
  refine s_iload_n rfl G.b dX5_setsEnd_1 ?_
  refine s_iload_n rfl G.b dX5_setsEnd_2 ?_
  refine s_callV G (mX5_isState EN) q2059 q2061 (sel_cons (r := (RX5, TX5, 37)) (by decide) rfl qs38 (sel_nil)) q90 q2062 nmk_257 (rm_of hF (Nat.le_of_ble_eq_true rfl) (Nat.le_of_ble_eq_true rfl)) dX5_setsEnd_3 ?_ (sx_out G (fun z hz => (hxt z hz).elim))
  refine s_ifne (tgt := 16) G.b dX5_setsEnd_6 (by decide) (tX5_setsEnd_16 EN G hF hC hxt) ?_
  refine s_aload_n rfl G.b dX5_setsEnd_9 ?_
  refine s_bipush (by decide) G.b dX5_setsEnd_10 ?_
  refine s_callV G (mX5_fail EN) q2036 q2038 (sel_cons (r := (RX5, TX5, 37)) (by decide) rfl qs34 (sel_nil)) q90 q2039 nmk_254 (rm_of hF (Nat.le_of_ble_eq_true rfl) (Nat.le_of_ble_eq_true rfl)) dX5_setsEnd_12 ?_ (sx_out G (fun z hz => (hxt z hz).elim))
  exact s_ireturn G dX5_setsEnd_15
set_option maxHeartbeats 4000000 in
theorem mX5_setsEnd {l : Launch} {D : DE} {s0 : State} {E : Nat → Value} (EN : EV l D s0 E) : rMet l D s0 yX5_setsEnd (ws_ yX5_setsEnd cX5_setsEnd 4 (Option.some Jvm.ClassFile.FieldType.int)) 5 128 (wX5_setsEnd E) := by
  refine body_met (fun _ => false) EN.kn (fun w h => h) (by decide +kernel) rfl (fun av h Q hw => ?_) ?_
  · unfold wX5_setsEnd at hw
    split at hw
    · exact Nat.le_of_ble_eq_true rfl
    · exact hw.elim
  · intro p e s m below meth c av h Q hxt G hw
    unfold wX5_setsEnd at hw
    split at hw
    · exact tX5_setsEnd_0 EN G ⟨rfl, rfl⟩ rfl hxt _ _ _ hw
    · exact hw.elim
/-! ChantRulesModel.end(III)I (X5_end) -/
theorem nmk_279 : nm_ok yX5_setsEnd 3 := ⟨by decide +kernel, by decide +kernel, by decide +kernel⟩
def bX5_end_0 (E : Nat → Value) (Q : Rs → HS → Prop) : Ct :=
  o_aload 0 <|
  o_callV [8] 1 (wX5_begins E) (x_out Q) <|
  o_aload 0 <|
  o_aload 0 <|
  o_iload 1 <|
  o_iload 2 <|
  o_iload 3 <|
  o_callV [8] 4 (wX5_setsEnd E) (x_out Q) <|
  o_callV [8] 2 (wX5_ends E) (x_out Q) <|
  o_ireturn .int Q
def wX5_end (E : Nat → Value) : Wp := fun av h Q => match av with
  | [a0, a1, a2, a3] => bX5_end_0 E Q [a0, a1, a2, a3] [] h
  | _ => False
set_option maxHeartbeats 4000000 in
theorem tX5_end_0 {x : CX} {E : Nat → Value} {Q : Rs → HS → Prop} (EN : EX x E) (G : Gd x cX5_end "ChantRulesModel" yX5_end 4 (Option.some Jvm.ClassFile.FieldType.int) Q) (hF : x.1.2.2.2.frames = 6 ∧ x.1.2.2.2.locals = 151) (hC : x.2.2.2.2.2 = (fun _ => false)) (hxt : (∀ z ∈ x.2.2.1.2.1.exceptionTable.toList, False)) : Snd x 0 (bX5_end_0 E Q) := by
  unfold bX5_end_0
  refine s_aload_n rfl G.b dX5_end_0 ?_
  refine s_callV G (mX5_begins EN) q2019 q2021 (sel_cons (r := (RX5, TX5, 37)) (by decide) rfl qs32 (sel_nil)) q90 q2022 nmk_258 (rm_of hF (Nat.le_of_ble_eq_true rfl) (Nat.le_of_ble_eq_true rfl)) dX5_end_1 ?_ (sx_out G (fun z hz => (hxt z hz).elim))
  refine s_aload_n rfl G.b dX5_end_4 ?_
  refine s_aload_n rfl G.b dX5_end_5 ?_
  refine s_iload_n rfl G.b dX5_end_6 ?_
  refine s_iload_n rfl G.b dX5_end_7 ?_
  refine s_iload_n rfl G.b dX5_end_8 ?_
  refine s_callV G (mX5_setsEnd EN) q2055 q2057 (sel_cons (r := (RX5, TX5, 37)) (by decide) rfl qs37 (sel_nil)) q90 q2058 nmk_279 (rm_of hF (Nat.le_of_ble_eq_true rfl) (Nat.le_of_ble_eq_true rfl)) dX5_end_9 ?_ (sx_out G (fun z hz => (hxt z hz).elim))
  refine s_callV G (mX5_ends EN) q2047 q2049 (sel_cons (r := (RX5, TX5, 37)) (by decide) rfl qs36 (sel_nil)) q90 q2050 nmk_260 (rm_of hF (Nat.le_of_ble_eq_true rfl) (Nat.le_of_ble_eq_true rfl)) dX5_end_12 ?_ (sx_out G (fun z hz => (hxt z hz).elim))
  exact s_ireturn G dX5_end_15
set_option maxHeartbeats 4000000 in
theorem mX5_end {l : Launch} {D : DE} {s0 : State} {E : Nat → Value} (EN : EV l D s0 E) : rMet l D s0 yX5_end (ws_ yX5_end cX5_end 4 (Option.some Jvm.ClassFile.FieldType.int)) 6 151 (wX5_end E) := by
  refine body_met (fun _ => false) EN.kn (fun w h => h) (by decide +kernel) rfl (fun av h Q hw => ?_) ?_
  · unfold wX5_end at hw
    split at hw
    · exact Nat.le_of_ble_eq_true rfl
    · exact hw.elim
  · intro p e s m below meth c av h Q hxt G hw
    unfold wX5_end at hw
    split at hw
    · exact tX5_end_0 EN G ⟨rfl, rfl⟩ rfl hxt _ _ _ hw
    · exact hw.elim
/-! ChantRulesModel.isBalanced()I (X5_isBalanced) -/
def bX5_isBalanced_36 (E : Nat → Value) (Q : Rs → HS → Prop) : Ct :=
  o_ireturn .int Q
def bX5_isBalanced_35 (E : Nat → Value) (Q : Rs → HS → Prop) : Ct :=
  o_push (.int 0) <|
  (bX5_isBalanced_36 E Q)
def bX5_isBalanced_0 (E : Nat → Value) (Q : Rs → HS → Prop) : Ct :=
  o_aload 0 <|
  o_getf [8] 7 <|
  o_push (.int 2) <|
  o_ald [100] <|
  o_aload 0 <|
  o_getf [8] 7 <|
  o_push (.int 3) <|
  o_ald [100] <|
  o_iadd <|
  o_aload 0 <|
  o_getf [8] 7 <|
  o_push (.int 14) <|
  o_ald [100] <|
  o_aload 0 <|
  o_getf [8] 7 <|
  o_push (.int 15) <|
  o_ald [100] <|
  o_isub <|
  o_icmpne (bX5_isBalanced_35 E Q) <|
  o_push (.int 1) <|
  (bX5_isBalanced_36 E Q)
def wX5_isBalanced (E : Nat → Value) : Wp := fun av h Q => match av with
  | [a0] => bX5_isBalanced_0 E Q [a0] [] h
  | _ => False
set_option maxHeartbeats 4000000 in
theorem tX5_isBalanced_36 {x : CX} {E : Nat → Value} {Q : Rs → HS → Prop} (EN : EX x E) (G : Gd x cX5_isBalanced "ChantRulesModel" yX5_isBalanced 1 (Option.some Jvm.ClassFile.FieldType.int) Q) (hF : x.1.2.2.2.frames = 2 ∧ x.1.2.2.2.locals = 64) (hC : x.2.2.2.2.2 = (fun _ => false)) (hxt : (∀ z ∈ x.2.2.1.2.1.exceptionTable.toList, False)) : Snd x 36 (bX5_isBalanced_36 E Q) := by
  unfold bX5_isBalanced_36
  exact s_ireturn G dX5_isBalanced_36
set_option maxHeartbeats 4000000 in
theorem tX5_isBalanced_35 {x : CX} {E : Nat → Value} {Q : Rs → HS → Prop} (EN : EX x E) (G : Gd x cX5_isBalanced "ChantRulesModel" yX5_isBalanced 1 (Option.some Jvm.ClassFile.FieldType.int) Q) (hF : x.1.2.2.2.frames = 2 ∧ x.1.2.2.2.locals = 64) (hC : x.2.2.2.2.2 = (fun _ => false)) (hxt : (∀ z ∈ x.2.2.1.2.1.exceptionTable.toList, False)) : Snd x 35 (bX5_isBalanced_35 E Q) := by
  unfold bX5_isBalanced_35
  refine s_iconst (by decide) G.b dX5_isBalanced_35 ?_
  exact (tX5_isBalanced_36 EN G hF hC hxt)
set_option maxHeartbeats 4000000 in
theorem tX5_isBalanced_0 {x : CX} {E : Nat → Value} {Q : Rs → HS → Prop} (EN : EX x E) (G : Gd x cX5_isBalanced "ChantRulesModel" yX5_isBalanced 1 (Option.some Jvm.ClassFile.FieldType.int) Q) (hF : x.1.2.2.2.frames = 2 ∧ x.1.2.2.2.locals = 64) (hC : x.2.2.2.2.2 = (fun _ => false)) (hxt : (∀ z ∈ x.2.2.1.2.1.exceptionTable.toList, False)) : Snd x 0 (bX5_isBalanced_0 E Q) := by
  unfold bX5_isBalanced_0
  refine s_aload_n rfl G.b dX5_isBalanced_0 ?_
  refine s_getf G.b G.ow G.kn (G.hts _ q1910) (fun _ h => h) fa_73 dX5_isBalanced_1 ?_
  refine s_iconst (by decide) G.b dX5_isBalanced_4 ?_
  refine s_iald G.b G.kn dX5_isBalanced_5 ?_
  refine s_aload_n rfl G.b dX5_isBalanced_6 ?_
  refine s_getf G.b G.ow G.kn (G.hts _ q1910) (fun _ h => h) fa_73 dX5_isBalanced_7 ?_
  refine s_iconst (by decide) G.b dX5_isBalanced_10 ?_
  refine s_iald G.b G.kn dX5_isBalanced_11 ?_
  refine s_iadd G.b dX5_isBalanced_12 ?_
  refine s_aload_n rfl G.b dX5_isBalanced_13 ?_
  refine s_getf G.b G.ow G.kn (G.hts _ q1910) (fun _ h => h) fa_73 dX5_isBalanced_14 ?_
  refine s_bipush (by decide) G.b dX5_isBalanced_17 ?_
  refine s_iald G.b G.kn dX5_isBalanced_19 ?_
  refine s_aload_n rfl G.b dX5_isBalanced_20 ?_
  refine s_getf G.b G.ow G.kn (G.hts _ q1910) (fun _ h => h) fa_73 dX5_isBalanced_21 ?_
  refine s_bipush (by decide) G.b dX5_isBalanced_24 ?_
  refine s_iald G.b G.kn dX5_isBalanced_26 ?_
  refine s_isub G.b dX5_isBalanced_27 ?_
  refine s_icmpne (tgt := 35) G.b dX5_isBalanced_28 (by decide) (tX5_isBalanced_35 EN G hF hC hxt) ?_
  refine s_iconst (by decide) G.b dX5_isBalanced_31 ?_
  exact s_goto (tgt := 36) G.b dX5_isBalanced_32 (by decide) (tX5_isBalanced_36 EN G hF hC hxt)
set_option maxHeartbeats 4000000 in
theorem mX5_isBalanced {l : Launch} {D : DE} {s0 : State} {E : Nat → Value} (EN : EV l D s0 E) : rMet l D s0 yX5_isBalanced (ws_ yX5_isBalanced cX5_isBalanced 1 (Option.some Jvm.ClassFile.FieldType.int)) 2 64 (wX5_isBalanced E) := by
  refine body_met (fun _ => false) EN.kn (fun w h => h) (by decide +kernel) rfl (fun av h Q hw => ?_) ?_
  · unfold wX5_isBalanced at hw
    split at hw
    · exact Nat.le_of_ble_eq_true rfl
    · exact hw.elim
  · intro p e s m below meth c av h Q hxt G hw
    unfold wX5_isBalanced at hw
    split at hw
    · exact tX5_isBalanced_0 EN G ⟨rfl, rfl⟩ rfl hxt _ _ _ hw
    · exact hw.elim
/-! ChantRulesModel.least(I)I (X5_least) -/
def bX5_least_41 (E : Nat → Value) (Q : Rs → HS → Prop) : Ct :=
  o_ireturn .int Q
def bX5_least_39 (E : Nat → Value) (Q : Rs → HS → Prop) : Ct :=
  o_push (.int (-15)) <|
  (bX5_least_41 E Q)
def bX5_least_20 (E : Nat → Value) (Q : Rs → HS → Prop) : Ct :=
  o_aload 0 <|
  o_iload 1 <|
  o_callV [8] 2 (wX5_laysRule E) (x_out Q) <|
  o_aload 0 <|
  o_callV [8] 1 (wX5_reads E) (x_out Q) <|
  o_ifeq (bX5_least_39 E Q) <|
  o_aload 0 <|
  o_getf [8] 27 <|
  (bX5_least_41 E Q)
def bX5_least_10 (E : Nat → Value) (Q : Rs → HS → Prop) : Ct :=
  o_aload 0 <|
  o_callV [8] 1 (wX5_isWord E) (x_out Q) <|
  o_ifne (bX5_least_20 E Q) <|
  o_push (.int (-12)) <|
  o_ireturn .int Q
def bX5_least_0 (E : Nat → Value) (Q : Rs → HS → Prop) : Ct :=
  o_iload 1 <|
  o_call 1 (wX5_isRule E) (x_out Q) <|
  o_ifne (bX5_least_10 E Q) <|
  o_push (.int (-11)) <|
  o_ireturn .int Q
def wX5_least (E : Nat → Value) : Wp := fun av h Q => match av with
  | [a0, a1] => bX5_least_0 E Q [a0, a1] [] h
  | _ => False
set_option maxHeartbeats 4000000 in
theorem tX5_least_41 {x : CX} {E : Nat → Value} {Q : Rs → HS → Prop} (EN : EX x E) (G : Gd x cX5_least "ChantRulesModel" yX5_least 2 (Option.some Jvm.ClassFile.FieldType.int) Q) (hF : x.1.2.2.2.frames = 6 ∧ x.1.2.2.2.locals = 165) (hC : x.2.2.2.2.2 = (fun _ => false)) (hxt : (∀ z ∈ x.2.2.1.2.1.exceptionTable.toList, False)) : Snd x 41 (bX5_least_41 E Q) := by
  unfold bX5_least_41
  exact s_ireturn G dX5_least_41
set_option maxHeartbeats 4000000 in
theorem tX5_least_39 {x : CX} {E : Nat → Value} {Q : Rs → HS → Prop} (EN : EX x E) (G : Gd x cX5_least "ChantRulesModel" yX5_least 2 (Option.some Jvm.ClassFile.FieldType.int) Q) (hF : x.1.2.2.2.frames = 6 ∧ x.1.2.2.2.locals = 165) (hC : x.2.2.2.2.2 = (fun _ => false)) (hxt : (∀ z ∈ x.2.2.1.2.1.exceptionTable.toList, False)) : Snd x 39 (bX5_least_39 E Q) := by
  unfold bX5_least_39
  refine s_bipush (by decide) G.b dX5_least_39 ?_
  exact (tX5_least_41 EN G hF hC hxt)
set_option maxHeartbeats 4000000 in
theorem tX5_least_20 {x : CX} {E : Nat → Value} {Q : Rs → HS → Prop} (EN : EX x E) (G : Gd x cX5_least "ChantRulesModel" yX5_least 2 (Option.some Jvm.ClassFile.FieldType.int) Q) (hF : x.1.2.2.2.frames = 6 ∧ x.1.2.2.2.locals = 165) (hC : x.2.2.2.2.2 = (fun _ => false)) (hxt : (∀ z ∈ x.2.2.1.2.1.exceptionTable.toList, False)) : Snd x 20 (bX5_least_20 E Q) := by
  unfold bX5_least_20
  refine s_aload_n rfl G.b dX5_least_20 ?_
  refine s_iload_n rfl G.b dX5_least_21 ?_
  refine s_callV G (mX5_laysRule EN) q2118 q2120 (sel_cons (r := (RX5, TX5, 37)) (by decide) rfl qs46 (sel_nil)) q90 q2121 nmk_274 (rm_of hF (Nat.le_of_ble_eq_true rfl) (Nat.le_of_ble_eq_true rfl)) dX5_least_22 ?_ (sx_out G (fun z hz => (hxt z hz).elim))
  refine s_aload_n rfl G.b dX5_least_25 ?_
  refine s_callV G (mX5_reads EN) q2146 q2148 (sel_cons (r := (RX5, TX5, 37)) (by decide) rfl qs52 (sel_nil)) q90 q2149 nmk_270 (rm_of hF (Nat.le_of_ble_eq_true rfl) (Nat.le_of_ble_eq_true rfl)) dX5_least_26 ?_ (sx_out G (fun z hz => (hxt z hz).elim))
  refine s_ifeq (tgt := 39) G.b dX5_least_29 (by decide) (tX5_least_39 EN G hF hC hxt) ?_
  refine s_aload_n rfl G.b dX5_least_32 ?_
  refine s_getf G.b G.ow G.kn (G.hts _ q1930) (fun _ h => h) fa_102 dX5_least_33 ?_
  exact s_goto (tgt := 41) G.b dX5_least_36 (by decide) (tX5_least_41 EN G hF hC hxt)
set_option maxHeartbeats 4000000 in
theorem tX5_least_10 {x : CX} {E : Nat → Value} {Q : Rs → HS → Prop} (EN : EX x E) (G : Gd x cX5_least "ChantRulesModel" yX5_least 2 (Option.some Jvm.ClassFile.FieldType.int) Q) (hF : x.1.2.2.2.frames = 6 ∧ x.1.2.2.2.locals = 165) (hC : x.2.2.2.2.2 = (fun _ => false)) (hxt : (∀ z ∈ x.2.2.1.2.1.exceptionTable.toList, False)) : Snd x 10 (bX5_least_10 E Q) := by
  unfold bX5_least_10
  refine s_aload_n rfl G.b dX5_least_10 ?_
  refine s_callV G (mX5_isWord EN) q2142 q2144 (sel_cons (r := (RX5, TX5, 37)) (by decide) rfl qs51 (sel_nil)) q90 q2145 nmk_271 (rm_of hF (Nat.le_of_ble_eq_true rfl) (Nat.le_of_ble_eq_true rfl)) dX5_least_11 ?_ (sx_out G (fun z hz => (hxt z hz).elim))
  refine s_ifne (tgt := 20) G.b dX5_least_14 (by decide) (tX5_least_20 EN G hF hC hxt) ?_
  refine s_bipush (by decide) G.b dX5_least_17 ?_
  exact s_ireturn G dX5_least_19
set_option maxHeartbeats 4000000 in
theorem tX5_least_0 {x : CX} {E : Nat → Value} {Q : Rs → HS → Prop} (EN : EX x E) (G : Gd x cX5_least "ChantRulesModel" yX5_least 2 (Option.some Jvm.ClassFile.FieldType.int) Q) (hF : x.1.2.2.2.frames = 6 ∧ x.1.2.2.2.locals = 165) (hC : x.2.2.2.2.2 = (fun _ => false)) (hxt : (∀ z ∈ x.2.2.1.2.1.exceptionTable.toList, False)) : Snd x 0 (bX5_least_0 E Q) := by
  unfold bX5_least_0
  refine s_iload_n rfl G.b dX5_least_0 ?_
  refine s_callS G (mX5_isRule EN) q2030 q2031 q90 q2032 nmk_253 (rm_of hF (Nat.le_of_ble_eq_true rfl) (Nat.le_of_ble_eq_true rfl)) dX5_least_1 ?_ (sx_out G (fun z hz => (hxt z hz).elim))
  refine s_ifne (tgt := 10) G.b dX5_least_4 (by decide) (tX5_least_10 EN G hF hC hxt) ?_
  refine s_bipush (by decide) G.b dX5_least_7 ?_
  exact s_ireturn G dX5_least_9
set_option maxHeartbeats 4000000 in
theorem mX5_least {l : Launch} {D : DE} {s0 : State} {E : Nat → Value} (EN : EV l D s0 E) : rMet l D s0 yX5_least (ws_ yX5_least cX5_least 2 (Option.some Jvm.ClassFile.FieldType.int)) 6 165 (wX5_least E) := by
  refine body_met (fun _ => false) EN.kn (fun w h => h) (by decide +kernel) rfl (fun av h Q hw => ?_) ?_
  · unfold wX5_least at hw
    split at hw
    · exact Nat.le_of_ble_eq_true rfl
    · exact hw.elim
  · intro p e s m below meth c av h Q hxt G hw
    unfold wX5_least at hw
    split at hw
    · exact tX5_least_0 EN G ⟨rfl, rfl⟩ rfl hxt _ _ _ hw
    · exact hw.elim
/-! ChantRulesModel.meanWeight()D (X5_meanWeight) -/
def bX5_meanWeight_31 (E : Nat → Value) (Q : Rs → HS → Prop) : Ct :=
  o_dreturn Q
def bX5_meanWeight_22 (E : Nat → Value) (Q : Rs → HS → Prop) : Ct :=
  o_aload 0 <|
  o_push (.int 0) <|
  o_callV [8] 2 (wX5_ofArcs E) (x_out Q) <|
  o_i2d <|
  o_iload 1 <|
  o_i2d <|
  o_ddiv <|
  (bX5_meanWeight_31 E Q)
def bX5_meanWeight_0 (E : Nat → Value) (Q : Rs → HS → Prop) : Ct :=
  o_aload 0 <|
  o_getf [8] 7 <|
  o_push (.int 2) <|
  o_ald [100] <|
  o_aload 0 <|
  o_getf [8] 7 <|
  o_push (.int 3) <|
  o_ald [100] <|
  o_iadd <|
  o_istore 1 <|
  o_iload 1 <|
  o_ifne (bX5_meanWeight_22 E Q) <|
  o_push (.double FP.dconst0) <|
  (bX5_meanWeight_31 E Q)
def wX5_meanWeight (E : Nat → Value) : Wp := fun av h Q => match av with
  | [a0] => bX5_meanWeight_0 E Q [a0, jk] [] h
  | _ => False
set_option maxHeartbeats 4000000 in
theorem tX5_meanWeight_31 {x : CX} {E : Nat → Value} {Q : Rs → HS → Prop} (EN : EX x E) (G : Gd x cX5_meanWeight "ChantRulesModel" yX5_meanWeight 2 (Option.some Jvm.ClassFile.FieldType.double) Q) (hF : x.1.2.2.2.frames = 4 ∧ x.1.2.2.2.locals = 110) (hC : x.2.2.2.2.2 = (fun _ => false)) (hxt : (∀ z ∈ x.2.2.1.2.1.exceptionTable.toList, False)) : Snd x 31 (bX5_meanWeight_31 E Q) := by
  unfold bX5_meanWeight_31
  exact s_dreturn G dX5_meanWeight_31
set_option maxHeartbeats 4000000 in
theorem tX5_meanWeight_22 {x : CX} {E : Nat → Value} {Q : Rs → HS → Prop} (EN : EX x E) (G : Gd x cX5_meanWeight "ChantRulesModel" yX5_meanWeight 2 (Option.some Jvm.ClassFile.FieldType.double) Q) (hF : x.1.2.2.2.frames = 4 ∧ x.1.2.2.2.locals = 110) (hC : x.2.2.2.2.2 = (fun _ => false)) (hxt : (∀ z ∈ x.2.2.1.2.1.exceptionTable.toList, False)) : Snd x 22 (bX5_meanWeight_22 E Q) := by
  unfold bX5_meanWeight_22
  refine s_aload_n rfl G.b dX5_meanWeight_22 ?_
  refine s_iconst (by decide) G.b dX5_meanWeight_23 ?_
  refine s_callV G (mX5_ofArcs EN) q2310 q2312 (sel_cons (r := (RX5, TX5, 37)) (by decide) rfl qs74 (sel_nil)) q90 q2313 nmk_249 (rm_of hF (Nat.le_of_ble_eq_true rfl) (Nat.le_of_ble_eq_true rfl)) dX5_meanWeight_24 ?_ (sx_out G (fun z hz => (hxt z hz).elim))
  refine s_i2d G.b dX5_meanWeight_27 ?_
  refine s_iload_n rfl G.b dX5_meanWeight_28 ?_
  refine s_i2d G.b dX5_meanWeight_29 ?_
  refine s_ddiv G.b dX5_meanWeight_30 ?_
  exact (tX5_meanWeight_31 EN G hF hC hxt)
set_option maxHeartbeats 4000000 in
theorem tX5_meanWeight_0 {x : CX} {E : Nat → Value} {Q : Rs → HS → Prop} (EN : EX x E) (G : Gd x cX5_meanWeight "ChantRulesModel" yX5_meanWeight 2 (Option.some Jvm.ClassFile.FieldType.double) Q) (hF : x.1.2.2.2.frames = 4 ∧ x.1.2.2.2.locals = 110) (hC : x.2.2.2.2.2 = (fun _ => false)) (hxt : (∀ z ∈ x.2.2.1.2.1.exceptionTable.toList, False)) : Snd x 0 (bX5_meanWeight_0 E Q) := by
  unfold bX5_meanWeight_0
  refine s_aload_n rfl G.b dX5_meanWeight_0 ?_
  refine s_getf G.b G.ow G.kn (G.hts _ q1910) (fun _ h => h) fa_73 dX5_meanWeight_1 ?_
  refine s_iconst (by decide) G.b dX5_meanWeight_4 ?_
  refine s_iald G.b G.kn dX5_meanWeight_5 ?_
  refine s_aload_n rfl G.b dX5_meanWeight_6 ?_
  refine s_getf G.b G.ow G.kn (G.hts _ q1910) (fun _ h => h) fa_73 dX5_meanWeight_7 ?_
  refine s_iconst (by decide) G.b dX5_meanWeight_10 ?_
  refine s_iald G.b G.kn dX5_meanWeight_11 ?_
  refine s_iadd G.b dX5_meanWeight_12 ?_
  refine s_istore_n rfl G.b (by rw [G.nl]; decide) (fun _ _ => by rw [hC]) dX5_meanWeight_13 ?_
  refine s_iload_n rfl G.b dX5_meanWeight_14 ?_
  refine s_ifne (tgt := 22) G.b dX5_meanWeight_15 (by decide) (tX5_meanWeight_22 EN G hF hC hxt) ?_
  refine s_dconst0 G.b dX5_meanWeight_18 ?_
  exact s_goto (tgt := 31) G.b dX5_meanWeight_19 (by decide) (tX5_meanWeight_31 EN G hF hC hxt)
set_option maxHeartbeats 4000000 in
theorem mX5_meanWeight {l : Launch} {D : DE} {s0 : State} {E : Nat → Value} (EN : EV l D s0 E) : rMet l D s0 yX5_meanWeight (ws_ yX5_meanWeight cX5_meanWeight 2 (Option.some Jvm.ClassFile.FieldType.double)) 4 110 (wX5_meanWeight E) := by
  refine body_met (fun _ => false) EN.kn (fun w h => h) (by decide +kernel) rfl (fun av h Q hw => ?_) ?_
  · unfold wX5_meanWeight at hw
    split at hw
    · exact Nat.le_of_ble_eq_true rfl
    · exact hw.elim
  · intro p e s m below meth c av h Q hxt G hw
    unfold wX5_meanWeight at hw
    split at hw
    · exact tX5_meanWeight_0 EN G ⟨rfl, rfl⟩ rfl hxt _ _ _ hw
    · exact hw.elim
