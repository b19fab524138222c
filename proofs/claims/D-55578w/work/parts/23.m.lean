set_option maxRecDepth 100000
/-! ChantRules$Choir.breathes([II)V (X1_breathes) -/
theorem nmk_124 : nm_ok yX1_breathesOnce 2 := ⟨by decide +kernel, by decide +kernel, by decide +kernel⟩
def bX1_breathes_16 (E : Nat → Value) (Q : Rs → HS → Prop) (X2 : Ct) : Ct :=
  o_return Q
def bX1_breathes_2 (E : Nat → Value) (Q : Rs → HS → Prop) (X2 : Ct) : Ct :=
  o_iload 3 <|
  o_ifeq (bX1_breathes_16 E Q X2) <|
  o_aload 0 <|
  o_aload 1 <|
  o_iload 2 <|
  o_callV [1] 3 (wX1_breathesOnce E) (x_out Q) <|
  o_istore 3 <|
  X2
def bX1_breathes_0 (E : Nat → Value) (Q : Rs → HS → Prop) (X2 : Ct) : Ct :=
  o_push (.int 1) <|
  o_istore 3 <|
  X2
def wX1_breathes (E : Nat → Value) : Wp := fun av h Q => match av with
  | [a0, a1, a2] => ∀ X2 : Ct, (∀ ls st h, bX1_breathes_2 E Q X2 ls st h → X2 ls st h) → bX1_breathes_0 E Q X2 [a0, a1, a2, jk] [] h
  | _ => False
set_option maxHeartbeats 4000000 in
theorem tX1_breathes_16 {x : CX} {E : Nat → Value} {Q : Rs → HS → Prop} {X2 : Ct} (EN : EX x E) (G : Gd x cX1_breathes "ChantRules$Choir" yX1_breathes 4 (Option.none : Option Jvm.ClassFile.FieldType) Q) (hF : x.1.2.2.2.frames = 6 ∧ x.1.2.2.2.locals = 162) (hC : x.2.2.2.2.2 = (fun _ => false)) (hxt : (∀ z ∈ x.2.2.1.2.1.exceptionTable.toList, False)) (h2 : Snd x 2 X2) : Snd x 16 (bX1_breathes_16 E Q X2) := by
  unfold bX1_breathes_16
  exact s_return G dX1_breathes_16
set_option maxHeartbeats 4000000 in
theorem tX1_breathes_2 {x : CX} {E : Nat → Value} {Q : Rs → HS → Prop} {X2 : Ct} (EN : EX x E) (G : Gd x cX1_breathes "ChantRules$Choir" yX1_breathes 4 (Option.none : Option Jvm.ClassFile.FieldType) Q) (hF : x.1.2.2.2.frames = 6 ∧ x.1.2.2.2.locals = 162) (hC : x.2.2.2.2.2 = (fun _ => false)) (hxt : (∀ z ∈ x.2.2.1.2.1.exceptionTable.toList, False)) (h2 : Snd x 2 X2) : Snd x 2 (bX1_breathes_2 E Q X2) := by
  unfold bX1_breathes_2
  refine s_iload_n rfl G.b dX1_breathes_2 ?_
  refine s_ifeq (tgt := 16) G.b dX1_breathes_3 (by decide) (tX1_breathes_16 EN G hF hC hxt h2) ?_
  refine s_aload_n rfl G.b dX1_breathes_6 ?_
  refine s_aload_n rfl G.b dX1_breathes_7 ?_
  refine s_iload_n rfl G.b dX1_breathes_8 ?_
  refine s_callV G (mX1_breathesOnce EN) q1316 q1318 (sel_cons (r := (RX1, TX1, 4)) (by decide) rfl qs16 (sel_nil)) q77 q1319 nmk_124 (rm_of hF (Nat.le_of_ble_eq_true rfl) (Nat.le_of_ble_eq_true rfl)) dX1_breathes_9 ?_ (sx_out G (fun z hz => (hxt z hz).elim))
  refine s_istore_n rfl G.b (by rw [G.nl]; decide) (fun _ _ => by rw [hC]) dX1_breathes_12 ?_
  exact s_goto (tgt := 2) G.b dX1_breathes_13 (by decide) h2
set_option maxHeartbeats 4000000 in
theorem tX1_breathes_0 {x : CX} {E : Nat → Value} {Q : Rs → HS → Prop} {X2 : Ct} (EN : EX x E) (G : Gd x cX1_breathes "ChantRules$Choir" yX1_breathes 4 (Option.none : Option Jvm.ClassFile.FieldType) Q) (hF : x.1.2.2.2.frames = 6 ∧ x.1.2.2.2.locals = 162) (hC : x.2.2.2.2.2 = (fun _ => false)) (hxt : (∀ z ∈ x.2.2.1.2.1.exceptionTable.toList, False)) (h2 : Snd x 2 X2) : Snd x 0 (bX1_breathes_0 E Q X2) := by
  unfold bX1_breathes_0
  refine s_iconst (by decide) G.b dX1_breathes_0 ?_
  refine s_istore_n rfl G.b (by rw [G.nl]; decide) (fun _ _ => by rw [hC]) dX1_breathes_1 ?_
  exact h2
set_option maxHeartbeats 4000000 in
theorem mX1_breathes {l : Launch} {D : DE} {s0 : State} {E : Nat → Value} (EN : EV l D s0 E) : rMet l D s0 yX1_breathes (ws_ yX1_breathes cX1_breathes 4 (Option.none : Option Jvm.ClassFile.FieldType)) 6 162 (wX1_breathes E) := by
  refine body_met (fun _ => false) EN.kn (fun w h => h) (by decide +kernel) rfl (fun av h Q hw => ?_) ?_
  · unfold wX1_breathes at hw
    split at hw
    · exact Nat.le_of_ble_eq_true rfl
    · exact hw.elim
  · intro p e s m below meth c av h Q hxt G hw
    unfold wX1_breathes at hw
    split at hw
    · exact tX1_breathes_0 EN G ⟨rfl, rfl⟩ rfl hxt (fun _ _ _ h => h) _ _ _ (hw (AW _ 2) (tX1_breathes_2 EN G ⟨rfl, rfl⟩ rfl hxt (fun _ _ _ h => h)))
    · exact hw.elim
/-! ChantRules$Choir.bothAgain(Ljava/lang/CharSequence;)I (X1_bothAgain) -/
theorem nmk_125 : nm_ok yX1_best 2 := ⟨by decide +kernel, by decide +kernel, by decide +kernel⟩
theorem nmk_126 : nm_ok yX1_breathes 2 := ⟨by decide +kernel, by decide +kernel, by decide +kernel⟩
def bX1_bothAgain_213 (E : Nat → Value) (Q : Rs → HS → Prop) (X36 X64 X89 : Ct) : Ct :=
  o_imul <|
  o_callV [1] 3 (wX1_best E) (x_out Q) <|
  o_ireturn .int Q
def bX1_bothAgain_204 (E : Nat → Value) (Q : Rs → HS → Prop) (X36 X64 X89 : Ct) : Ct :=
  o_aload 0 <|
  o_aload 3 <|
  o_iload 2 <|
  o_aload 1 <|
  o_vsel 1 [18] (o_callV [18] 1 (wJ5_length E) (x_out Q) (bX1_bothAgain_213 E Q X36 X64 X89)) (o_callV [19] 1 (wJ6_length E) (x_out Q) (bX1_bothAgain_213 E Q X36 X64 X89))
def bX1_bothAgain_187 (E : Nat → Value) (Q : Rs → HS → Prop) (X36 X64 X89 : Ct) : Ct :=
  o_aload 0 <|
  o_aload 3 <|
  o_iload 2 <|
  o_iload 4 <|
  o_push (.int 1) <|
  o_iadd <|
  o_imul <|
  o_callV [1] 3 (wX1_breathes E) (x_out Q) <|
  o_iinc 4 1 <|
  X64
def bX1_bothAgain_182 (E : Nat → Value) (Q : Rs → HS → Prop) (X36 X64 X89 : Ct) : Ct :=
  o_istore 7 <|
  X89
def bX1_bothAgain_181 (E : Nat → Value) (Q : Rs → HS → Prop) (X36 X64 X89 : Ct) : Ct :=
  o_push (.int 0) <|
  (bX1_bothAgain_182 E Q X36 X64 X89)
def bX1_bothAgain_150 (E : Nat → Value) (Q : Rs → HS → Prop) (X36 X64 X89 : Ct) : Ct :=
  o_istore 7 <|
  o_iload 7 <|
  o_ifeq (bX1_bothAgain_181 E Q X36 X64 X89) <|
  o_aload 0 <|
  o_aload 3 <|
  o_aload 6 <|
  o_iload 2 <|
  o_iload 4 <|
  o_imul <|
  o_iload 2 <|
  o_iload 4 <|
  o_push (.int 1) <|
  o_iadd <|
  o_imul <|
  o_callV [1] 5 (wX1_goes E) (x_out Q) <|
  o_ifeq (bX1_bothAgain_181 E Q X36 X64 X89) <|
  o_push (.int 1) <|
  (bX1_bothAgain_182 E Q X36 X64 X89)
def bX1_bothAgain_149 (E : Nat → Value) (Q : Rs → HS → Prop) (X36 X64 X89 : Ct) : Ct :=
  o_push (.int 0) <|
  (bX1_bothAgain_150 E Q X36 X64 X89)
def bX1_bothAgain_139 (E : Nat → Value) (Q : Rs → HS → Prop) (X36 X64 X89 : Ct) : Ct :=
  o_push (.int 97) <|
  o_isub <|
  o_icmpne (bX1_bothAgain_149 E Q X36 X64 X89) <|
  o_push (.int 1) <|
  (bX1_bothAgain_150 E Q X36 X64 X89)
def bX1_bothAgain_89 (E : Nat → Value) (Q : Rs → HS → Prop) (X36 X64 X89 : Ct) : Ct :=
  o_aload 5 <|
  o_callV [20] 1 (wJ9_hasNext E) (x_out Q) <|
  o_ifeq (bX1_bothAgain_187 E Q X36 X64 X89) <|
  o_aload 5 <|
  o_callV [20] 1 (wJ9_next E) (x_out Q) <|
  o_cast [10, 11] <|
  o_astore 6 <|
  o_aload 6 <|
  o_inst [11] [10] <|
  o_ifeq (bX1_bothAgain_149 E Q X36 X64 X89) <|
  o_aload 6 <|
  o_cast [11] <|
  o_astore 8 <|
  o_aload 8 <|
  o_getf [11] 2 <|
  o_aload 1 <|
  o_iload 4 <|
  o_vsel 2 [18] (o_callV [18] 2 (wJ5_charAt E) (x_out Q) (bX1_bothAgain_139 E Q X36 X64 X89)) (o_callV [19] 2 (wJ6_charAt E) (x_out Q) (bX1_bothAgain_139 E Q X36 X64 X89))
def bX1_bothAgain_72 (E : Nat → Value) (Q : Rs → HS → Prop) (X36 X64 X89 : Ct) : Ct :=
  o_icmpge (bX1_bothAgain_204 E Q X36 X64 X89) <|
  o_aload 0 <|
  o_getf [1] 0 <|
  o_push (.int 0) <|
  o_ald [103, 104, 105, 106, 107] <|
  o_getf [2] 0 <|
  o_callV [15] 1 (wJ2_iterator E) (x_out Q) <|
  o_astore 5 <|
  X89
def bX1_bothAgain_64 (E : Nat → Value) (Q : Rs → HS → Prop) (X36 X64 X89 : Ct) : Ct :=
  o_iload 4 <|
  o_aload 1 <|
  o_vsel 1 [18] (o_callV [18] 1 (wJ5_length E) (x_out Q) (bX1_bothAgain_72 E Q X36 X64 X89)) (o_callV [19] 1 (wJ6_length E) (x_out Q) (bX1_bothAgain_72 E Q X36 X64 X89))
def bX1_bothAgain_55 (E : Nat → Value) (Q : Rs → HS → Prop) (X36 X64 X89 : Ct) : Ct :=
  o_aload 0 <|
  o_aload 3 <|
  o_push (.int 0) <|
  o_callV [1] 3 (wX1_breathes E) (x_out Q) <|
  o_push (.int 0) <|
  o_istore 4 <|
  X64
def bX1_bothAgain_36 (E : Nat → Value) (Q : Rs → HS → Prop) (X36 X64 X89 : Ct) : Ct :=
  o_iload 4 <|
  o_aload 3 <|
  o_alen <|
  o_icmpge (bX1_bothAgain_55 E Q X36 X64 X89) <|
  o_aload 3 <|
  o_iload 4 <|
  o_push (.int 1000000) <|
  o_ast [(100, .int)] <|
  o_iinc 4 1 <|
  X36
def bX1_bothAgain_27 (E : Nat → Value) (Q : Rs → HS → Prop) (X36 X64 X89 : Ct) : Ct :=
  o_push (.int 1) <|
  o_iadd <|
  o_imul <|
  o_newa 100 (.int 0) <|
  o_astore 3 <|
  o_push (.int 1) <|
  o_istore 4 <|
  X36
def bX1_bothAgain_0 (E : Nat → Value) (Q : Rs → HS → Prop) (X36 X64 X89 : Ct) : Ct :=
  o_aload 0 <|
  o_getf [1] 0 <|
  o_push (.int 0) <|
  o_ald [103, 104, 105, 106, 107] <|
  o_getf [2] 2 <|
  o_aload 0 <|
  o_getf [1] 0 <|
  o_push (.int 1) <|
  o_ald [103, 104, 105, 106, 107] <|
  o_getf [2] 2 <|
  o_imul <|
  o_istore 2 <|
  o_iload 2 <|
  o_aload 1 <|
  o_vsel 1 [18] (o_callV [18] 1 (wJ5_length E) (x_out Q) (bX1_bothAgain_27 E Q X36 X64 X89)) (o_callV [19] 1 (wJ6_length E) (x_out Q) (bX1_bothAgain_27 E Q X36 X64 X89))
def wX1_bothAgain (E : Nat → Value) : Wp := fun av h Q => match av with
  | [a0, a1] => ∀ X36 X64 X89 : Ct, (∀ ls st h, bX1_bothAgain_36 E Q X36 X64 X89 ls st h → X36 ls st h) → (∀ ls st h, bX1_bothAgain_64 E Q X36 X64 X89 ls st h → X64 ls st h) → (∀ ls st h, bX1_bothAgain_89 E Q X36 X64 X89 ls st h → X89 ls st h) → bX1_bothAgain_0 E Q X36 X64 X89 [a0, a1, jk, jk, jk, jk, jk, jk, jk] [] h
  | _ => False
set_option maxHeartbeats 4000000 in
theorem tX1_bothAgain_213 {x : CX} {E : Nat → Value} {Q : Rs → HS → Prop} {X36 X64 X89 : Ct} (EN : EX x E) (G : Gd x cX1_bothAgain "ChantRules$Choir" yX1_bothAgain 9 (Option.some Jvm.ClassFile.FieldType.int) Q) (hF : x.1.2.2.2.frames = 7 ∧ x.1.2.2.2.locals = 185) (hC : x.2.2.2.2.2 = (fun _ => false)) (hxt : (∀ z ∈ x.2.2.1.2.1.exceptionTable.toList, False)) (h36 : Snd x 36 X36) (h64 : Snd x 64 X64) (h89 : Snd x 89 X89) : Snd x 213 (bX1_bothAgain_213 E Q X36 X64 X89) := by
  unfold bX1_bothAgain_213
  refine s_imul G.b dX1_bothAgain_213 ?_
  refine s_callV G (mX1_best EN) q1348 q1350 (sel_cons (r := (RX1, TX1, 4)) (by decide) rfl qs19 (sel_nil)) q77 q1351 nmk_125 (rm_of hF (Nat.le_of_ble_eq_true rfl) (Nat.le_of_ble_eq_true rfl)) dX1_bothAgain_214 ?_ (sx_out G (fun z hz => (hxt z hz).elim))
  exact s_ireturn G dX1_bothAgain_217
set_option maxHeartbeats 4000000 in
theorem tX1_bothAgain_204 {x : CX} {E : Nat → Value} {Q : Rs → HS → Prop} {X36 X64 X89 : Ct} (EN : EX x E) (G : Gd x cX1_bothAgain "ChantRules$Choir" yX1_bothAgain 9 (Option.some Jvm.ClassFile.FieldType.int) Q) (hF : x.1.2.2.2.frames = 7 ∧ x.1.2.2.2.locals = 185) (hC : x.2.2.2.2.2 = (fun _ => false)) (hxt : (∀ z ∈ x.2.2.1.2.1.exceptionTable.toList, False)) (h36 : Snd x 36 X36) (h64 : Snd x 64 X64) (h89 : Snd x 89 X89) : Snd x 204 (bX1_bothAgain_204 E Q X36 X64 X89) := by
  unfold bX1_bothAgain_204
  refine s_aload_n rfl G.b dX1_bothAgain_204 ?_
  refine s_aload_n rfl G.b dX1_bothAgain_205 ?_
  refine s_iload_n rfl G.b dX1_bothAgain_206 ?_
  refine s_aload_n rfl G.b dX1_bothAgain_207 ?_
  exact (s_vsel (s_callF (r0 := (RJ5, TJ5, 4)) (w := ⟨"java/lang/CharSequence", "length", "()I"⟩) (by decide) rfl G (mJ5_length EN) q1310 (va_Fw.moved (by decide +kernel) G.warm.alike ⟨(EN.nw q978 rfl), (EN.nw q977 rfl), (EN.nw q993 rfl), (EN.nw q992 rfl), (EN.nw q990 rfl)⟩) q991 q937 q85 q939 nmk_114 (rm_of hF (Nat.le_of_ble_eq_true rfl) (Nat.le_of_ble_eq_true rfl)) dX1_bothAgain_208 (tX1_bothAgain_213 EN G hF hC hxt h36 h64 h89) (sx_out G (fun z hz => (hxt z hz).elim)) ) (s_callF (r0 := (RJ6, TJ6, 4)) (w := ⟨"java/lang/CharSequence", "length", "()I"⟩) (by decide) rfl G (mJ6_length EN) q1310 (va_Fw.moved (by decide +kernel) G.warm.alike ⟨(EN.nw q978 rfl), (EN.nw q977 rfl), (EN.nw q983 rfl), (EN.nw q981 rfl), (EN.nw q979 rfl)⟩) q980 q982 q86 q984 nmk_114 (rm_of hF (Nat.le_of_ble_eq_true rfl) (Nat.le_of_ble_eq_true rfl)) dX1_bothAgain_208 (tX1_bothAgain_213 EN G hF hC hxt h36 h64 h89) (sx_out G (fun z hz => (hxt z hz).elim)) ))
set_option maxHeartbeats 4000000 in
theorem tX1_bothAgain_187 {x : CX} {E : Nat → Value} {Q : Rs → HS → Prop} {X36 X64 X89 : Ct} (EN : EX x E) (G : Gd x cX1_bothAgain "ChantRules$Choir" yX1_bothAgain 9 (Option.some Jvm.ClassFile.FieldType.int) Q) (hF : x.1.2.2.2.frames = 7 ∧ x.1.2.2.2.locals = 185) (hC : x.2.2.2.2.2 = (fun _ => false)) (hxt : (∀ z ∈ x.2.2.1.2.1.exceptionTable.toList, False)) (h36 : Snd x 36 X36) (h64 : Snd x 64 X64) (h89 : Snd x 89 X89) : Snd x 187 (bX1_bothAgain_187 E Q X36 X64 X89) := by
  unfold bX1_bothAgain_187
  refine s_aload_n rfl G.b dX1_bothAgain_187 ?_
  refine s_aload_n rfl G.b dX1_bothAgain_188 ?_
  refine s_iload_n rfl G.b dX1_bothAgain_189 ?_
  refine s_iload G.b dX1_bothAgain_190 ?_
  refine s_iconst (by decide) G.b dX1_bothAgain_192 ?_
  refine s_iadd G.b dX1_bothAgain_193 ?_
  refine s_imul G.b dX1_bothAgain_194 ?_
  refine s_callV G (mX1_breathes EN) q1312 q1314 (sel_cons (r := (RX1, TX1, 4)) (by decide) rfl qs15 (sel_nil)) q77 q1315 nmk_126 (rm_of hF (Nat.le_of_ble_eq_true rfl) (Nat.le_of_ble_eq_true rfl)) dX1_bothAgain_195 ?_ (sx_out G (fun z hz => (hxt z hz).elim))
  refine s_iinc (by decide) G.b (by rw [G.nl]; decide) (fun _ _ => by rw [hC]) dX1_bothAgain_198 ?_
  exact s_goto (tgt := 64) G.b dX1_bothAgain_201 (by decide) h64
set_option maxHeartbeats 4000000 in
theorem tX1_bothAgain_182 {x : CX} {E : Nat → Value} {Q : Rs → HS → Prop} {X36 X64 X89 : Ct} (EN : EX x E) (G : Gd x cX1_bothAgain "ChantRules$Choir" yX1_bothAgain 9 (Option.some Jvm.ClassFile.FieldType.int) Q) (hF : x.1.2.2.2.frames = 7 ∧ x.1.2.2.2.locals = 185) (hC : x.2.2.2.2.2 = (fun _ => false)) (hxt : (∀ z ∈ x.2.2.1.2.1.exceptionTable.toList, False)) (h36 : Snd x 36 X36) (h64 : Snd x 64 X64) (h89 : Snd x 89 X89) : Snd x 182 (bX1_bothAgain_182 E Q X36 X64 X89) := by
  unfold bX1_bothAgain_182
  refine s_istore G.b (by rw [G.nl]; decide) (fun _ _ => by rw [hC]) dX1_bothAgain_182 ?_
  exact s_goto (tgt := 89) G.b dX1_bothAgain_184 (by decide) h89
set_option maxHeartbeats 4000000 in
theorem tX1_bothAgain_181 {x : CX} {E : Nat → Value} {Q : Rs → HS → Prop} {X36 X64 X89 : Ct} (EN : EX x E) (G : Gd x cX1_bothAgain "ChantRules$Choir" yX1_bothAgain 9 (Option.some Jvm.ClassFile.FieldType.int) Q) (hF : x.1.2.2.2.frames = 7 ∧ x.1.2.2.2.locals = 185) (hC : x.2.2.2.2.2 = (fun _ => false)) (hxt : (∀ z ∈ x.2.2.1.2.1.exceptionTable.toList, False)) (h36 : Snd x 36 X36) (h64 : Snd x 64 X64) (h89 : Snd x 89 X89) : Snd x 181 (bX1_bothAgain_181 E Q X36 X64 X89) := by
  unfold bX1_bothAgain_181
  refine s_iconst (by decide) G.b dX1_bothAgain_181 ?_
  exact (tX1_bothAgain_182 EN G hF hC hxt h36 h64 h89)
set_option maxHeartbeats 4000000 in
theorem tX1_bothAgain_150 {x : CX} {E : Nat → Value} {Q : Rs → HS → Prop} {X36 X64 X89 : Ct} (EN : EX x E) (G : Gd x cX1_bothAgain "ChantRules$Choir" yX1_bothAgain 9 (Option.some Jvm.ClassFile.FieldType.int) Q) (hF : x.1.2.2.2.frames = 7 ∧ x.1.2.2.2.locals = 185) (hC : x.2.2.2.2.2 = (fun _ => false)) (hxt : (∀ z ∈ x.2.2.1.2.1.exceptionTable.toList, False)) (h36 : Snd x 36 X36) (h64 : Snd x 64 X64) (h89 : Snd x 89 X89) : Snd x 150 (bX1_bothAgain_150 E Q X36 X64 X89) := by
  unfold bX1_bothAgain_150
  refine s_istore G.b (by rw [G.nl]; decide) (fun _ _ => by rw [hC]) dX1_bothAgain_150 ?_
  refine s_iload G.b dX1_bothAgain_152 ?_
  refine s_ifeq (tgt := 181) G.b dX1_bothAgain_154 (by decide) (tX1_bothAgain_181 EN G hF hC hxt h36 h64 h89) ?_
  refine s_aload_n rfl G.b dX1_bothAgain_157 ?_
  refine s_aload_n rfl G.b dX1_bothAgain_158 ?_
  refine s_aload G.b dX1_bothAgain_159 ?_
  refine s_iload_n rfl G.b dX1_bothAgain_161 ?_
  refine s_iload G.b dX1_bothAgain_162 ?_
  refine s_imul G.b dX1_bothAgain_164 ?_
  refine s_iload_n rfl G.b dX1_bothAgain_165 ?_
  refine s_iload G.b dX1_bothAgain_166 ?_
  refine s_iconst (by decide) G.b dX1_bothAgain_168 ?_
  refine s_iadd G.b dX1_bothAgain_169 ?_
  refine s_imul G.b dX1_bothAgain_170 ?_
  refine s_callV G (mX1_goes EN) q1327 q1329 (sel_cons (r := (RX1, TX1, 4)) (by decide) rfl qs17 (sel_nil)) q77 q1330 nmk_123 (rm_of hF (Nat.le_of_ble_eq_true rfl) (Nat.le_of_ble_eq_true rfl)) dX1_bothAgain_171 ?_ (sx_out G (fun z hz => (hxt z hz).elim))
  refine s_ifeq (tgt := 181) G.b dX1_bothAgain_174 (by decide) (tX1_bothAgain_181 EN G hF hC hxt h36 h64 h89) ?_
  refine s_iconst (by decide) G.b dX1_bothAgain_177 ?_
  exact s_goto (tgt := 182) G.b dX1_bothAgain_178 (by decide) (tX1_bothAgain_182 EN G hF hC hxt h36 h64 h89)
set_option maxHeartbeats 4000000 in
theorem tX1_bothAgain_149 {x : CX} {E : Nat → Value} {Q : Rs → HS → Prop} {X36 X64 X89 : Ct} (EN : EX x E) (G : Gd x cX1_bothAgain "ChantRules$Choir" yX1_bothAgain 9 (Option.some Jvm.ClassFile.FieldType.int) Q) (hF : x.1.2.2.2.frames = 7 ∧ x.1.2.2.2.locals = 185) (hC : x.2.2.2.2.2 = (fun _ => false)) (hxt : (∀ z ∈ x.2.2.1.2.1.exceptionTable.toList, False)) (h36 : Snd x 36 X36) (h64 : Snd x 64 X64) (h89 : Snd x 89 X89) : Snd x 149 (bX1_bothAgain_149 E Q X36 X64 X89) := by
  unfold bX1_bothAgain_149
  refine s_iconst (by decide) G.b dX1_bothAgain_149 ?_
  exact (tX1_bothAgain_150 EN G hF hC hxt h36 h64 h89)
set_option maxHeartbeats 4000000 in
theorem tX1_bothAgain_139 {x : CX} {E : Nat → Value} {Q : Rs → HS → Prop} {X36 X64 X89 : Ct} (EN : EX x E) (G : Gd x cX1_bothAgain "ChantRules$Choir" yX1_bothAgain 9 (Option.some Jvm.ClassFile.FieldType.int) Q) (hF : x.1.2.2.2.frames = 7 ∧ x.1.2.2.2.locals = 185) (hC : x.2.2.2.2.2 = (fun _ => false)) (hxt : (∀ z ∈ x.2.2.1.2.1.exceptionTable.toList, False)) (h36 : Snd x 36 X36) (h64 : Snd x 64 X64) (h89 : Snd x 89 X89) : Snd x 139 (bX1_bothAgain_139 E Q X36 X64 X89) := by
  unfold bX1_bothAgain_139
  refine s_bipush (by decide) G.b dX1_bothAgain_139 ?_
  refine s_isub G.b dX1_bothAgain_141 ?_
  refine s_icmpne (tgt := 149) G.b dX1_bothAgain_142 (by decide) (tX1_bothAgain_149 EN G hF hC hxt h36 h64 h89) ?_
  refine s_iconst (by decide) G.b dX1_bothAgain_145 ?_
  exact s_goto (tgt := 150) G.b dX1_bothAgain_146 (by decide) (tX1_bothAgain_150 EN G hF hC hxt h36 h64 h89)
set_option maxHeartbeats 4000000 in
theorem tX1_bothAgain_89 {x : CX} {E : Nat → Value} {Q : Rs → HS → Prop} {X36 X64 X89 : Ct} (EN : EX x E) (G : Gd x cX1_bothAgain "ChantRules$Choir" yX1_bothAgain 9 (Option.some Jvm.ClassFile.FieldType.int) Q) (hF : x.1.2.2.2.frames = 7 ∧ x.1.2.2.2.locals = 185) (hC : x.2.2.2.2.2 = (fun _ => false)) (hxt : (∀ z ∈ x.2.2.1.2.1.exceptionTable.toList, False)) (h36 : Snd x 36 X36) (h64 : Snd x 64 X64) (h89 : Snd x 89 X89) : Snd x 89 (bX1_bothAgain_89 E Q X36 X64 X89) := by
  unfold bX1_bothAgain_89
  refine s_aload G.b dX1_bothAgain_89 ?_
  refine s_callF (r0 := (RJ9, TJ9, 4)) (w := ⟨"java/util/Iterator", "hasNext", "()Z"⟩) (by decide) rfl G (mJ9_hasNext EN) q1322 (va_Fw.moved (by decide +kernel) G.warm.alike ⟨(EN.nw q380 rfl), (EN.nw q379 rfl), (EN.nw q385 rfl), (EN.nw q383 rfl), (EN.nw q381 rfl)⟩) q382 q384 q91 q386 nmk_15 (rm_of hF (Nat.le_of_ble_eq_true rfl) (Nat.le_of_ble_eq_true rfl)) dX1_bothAgain_91 ?_ (sx_out G (fun z hz => (hxt z hz).elim))
  refine s_ifeq (tgt := 187) G.b dX1_bothAgain_96 (by decide) (tX1_bothAgain_187 EN G hF hC hxt h36 h64 h89) ?_
  refine s_aload G.b dX1_bothAgain_99 ?_
  refine s_callF (r0 := (RJ9, TJ9, 4)) (w := ⟨"java/util/Iterator", "next", "()Ljava/lang/Object;"⟩) (by decide) rfl G (mJ9_next EN) q1324 (va_Fw.moved (by decide +kernel) G.warm.alike ⟨(EN.nw q390 rfl), (EN.nw q389 rfl), (EN.nw q394 rfl), (EN.nw q392 rfl), (EN.nw q381 rfl)⟩) q391 q393 q91 q395 nmk_16 (rm_of hF (Nat.le_of_ble_eq_true rfl) (Nat.le_of_ble_eq_true rfl)) dX1_bothAgain_101 ?_ (sx_out G (fun z hz => (hxt z hz).elim))
  refine s_cast G.b G.ow G.kn G.hts q1325 ct_1 dX1_bothAgain_106 ?_
  refine s_astore G.b (by rw [G.nl]; decide) (fun _ _ => by rw [hC]) dX1_bothAgain_109 ?_
  refine s_aload G.b dX1_bothAgain_111 ?_
  refine s_inst G.b G.ow G.kn G.hts q1345 ct_8y ct_8n dX1_bothAgain_113 ?_
  refine s_ifeq (tgt := 149) G.b dX1_bothAgain_116 (by decide) (tX1_bothAgain_149 EN G hF hC hxt h36 h64 h89) ?_
  refine s_aload G.b dX1_bothAgain_119 ?_
  refine s_cast G.b G.ow G.kn G.hts q1345 ct_9 dX1_bothAgain_121 ?_
  refine s_astore G.b (by rw [G.nl]; decide) (fun _ _ => by rw [hC]) dX1_bothAgain_124 ?_
  refine s_aload G.b dX1_bothAgain_126 ?_
  refine s_getfN G.b G.ow G.kn (va_Nw.use rfl (va_Nw.warmF G.warm (EN.nw q666 rfl))) (fun _ h => h) fa_22 dX1_bothAgain_128 ?_
  refine s_aload_n rfl G.b dX1_bothAgain_131 ?_
  refine s_iload G.b dX1_bothAgain_132 ?_
  exact (s_vsel (s_callF (r0 := (RJ5, TJ5, 4)) (w := ⟨"java/lang/CharSequence", "charAt", "(I)C"⟩) (by decide) rfl G (mJ5_charAt EN) q1347 (va_Fw.moved (by decide +kernel) G.warm.alike ⟨(EN.nw q1062 rfl), (EN.nw q1061 rfl), (EN.nw q1086 rfl), (EN.nw q1085 rfl), (EN.nw q990 rfl)⟩) q1084 q944 q85 q946 nmk_117 (rm_of hF (Nat.le_of_ble_eq_true rfl) (Nat.le_of_ble_eq_true rfl)) dX1_bothAgain_134 (tX1_bothAgain_139 EN G hF hC hxt h36 h64 h89) (sx_out G (fun z hz => (hxt z hz).elim)) ) (s_callF (r0 := (RJ6, TJ6, 4)) (w := ⟨"java/lang/CharSequence", "charAt", "(I)C"⟩) (by decide) rfl G (mJ6_charAt EN) q1347 (va_Fw.moved (by decide +kernel) G.warm.alike ⟨(EN.nw q1062 rfl), (EN.nw q1061 rfl), (EN.nw q1066 rfl), (EN.nw q1064 rfl), (EN.nw q979 rfl)⟩) q1063 q1065 q86 q1067 nmk_117 (rm_of hF (Nat.le_of_ble_eq_true rfl) (Nat.le_of_ble_eq_true rfl)) dX1_bothAgain_134 (tX1_bothAgain_139 EN G hF hC hxt h36 h64 h89) (sx_out G (fun z hz => (hxt z hz).elim)) ))
set_option maxHeartbeats 4000000 in
theorem tX1_bothAgain_72 {x : CX} {E : Nat → Value} {Q : Rs → HS → Prop} {X36 X64 X89 : Ct} (EN : EX x E) (G : Gd x cX1_bothAgain "ChantRules$Choir" yX1_bothAgain 9 (Option.some Jvm.ClassFile.FieldType.int) Q) (hF : x.1.2.2.2.frames = 7 ∧ x.1.2.2.2.locals = 185) (hC : x.2.2.2.2.2 = (fun _ => false)) (hxt : (∀ z ∈ x.2.2.1.2.1.exceptionTable.toList, False)) (h36 : Snd x 36 X36) (h64 : Snd x 64 X64) (h89 : Snd x 89 X89) : Snd x 72 (bX1_bothAgain_72 E Q X36 X64 X89) := by
  unfold bX1_bothAgain_72
  refine s_icmpge (tgt := 204) G.b dX1_bothAgain_72 (by decide) (tX1_bothAgain_204 EN G hF hC hxt h36 h64 h89) ?_
  refine s_aload_n rfl G.b dX1_bothAgain_75 ?_
  refine s_getf G.b G.ow G.kn (G.hts _ q192) (fun _ h => h) fa_5 dX1_bothAgain_76 ?_
  refine s_iconst (by decide) G.b dX1_bothAgain_79 ?_
  refine s_aald G.b G.kn dX1_bothAgain_80 ?_
  refine s_getfN G.b G.ow G.kn (va_Nw.use rfl (va_Nw.warmF G.warm (EN.nw q177 rfl))) (fun _ h => h) fa_3 dX1_bothAgain_81 ?_
  refine s_callV G (mJ2_iterator EN) q1320 q355 (sel_cons (r := (RJ2, TJ2, 3)) (by decide) rfl q356 (sel_nil)) q82 q357 nmk_18 (rm_of hF (Nat.le_of_ble_eq_true rfl) (Nat.le_of_ble_eq_true rfl)) dX1_bothAgain_84 ?_ (sx_out G (fun z hz => (hxt z hz).elim))
  refine s_astore G.b (by rw [G.nl]; decide) (fun _ _ => by rw [hC]) dX1_bothAgain_87 ?_
  exact h89
set_option maxHeartbeats 4000000 in
theorem tX1_bothAgain_64 {x : CX} {E : Nat → Value} {Q : Rs → HS → Prop} {X36 X64 X89 : Ct} (EN : EX x E) (G : Gd x cX1_bothAgain "ChantRules$Choir" yX1_bothAgain 9 (Option.some Jvm.ClassFile.FieldType.int) Q) (hF : x.1.2.2.2.frames = 7 ∧ x.1.2.2.2.locals = 185) (hC : x.2.2.2.2.2 = (fun _ => false)) (hxt : (∀ z ∈ x.2.2.1.2.1.exceptionTable.toList, False)) (h36 : Snd x 36 X36) (h64 : Snd x 64 X64) (h89 : Snd x 89 X89) : Snd x 64 (bX1_bothAgain_64 E Q X36 X64 X89) := by
  unfold bX1_bothAgain_64
  refine s_iload G.b dX1_bothAgain_64 ?_
  refine s_aload_n rfl G.b dX1_bothAgain_66 ?_
  exact (s_vsel (s_callF (r0 := (RJ5, TJ5, 4)) (w := ⟨"java/lang/CharSequence", "length", "()I"⟩) (by decide) rfl G (mJ5_length EN) q1310 (va_Fw.moved (by decide +kernel) G.warm.alike ⟨(EN.nw q978 rfl), (EN.nw q977 rfl), (EN.nw q993 rfl), (EN.nw q992 rfl), (EN.nw q990 rfl)⟩) q991 q937 q85 q939 nmk_114 (rm_of hF (Nat.le_of_ble_eq_true rfl) (Nat.le_of_ble_eq_true rfl)) dX1_bothAgain_67 (tX1_bothAgain_72 EN G hF hC hxt h36 h64 h89) (sx_out G (fun z hz => (hxt z hz).elim)) ) (s_callF (r0 := (RJ6, TJ6, 4)) (w := ⟨"java/lang/CharSequence", "length", "()I"⟩) (by decide) rfl G (mJ6_length EN) q1310 (va_Fw.moved (by decide +kernel) G.warm.alike ⟨(EN.nw q978 rfl), (EN.nw q977 rfl), (EN.nw q983 rfl), (EN.nw q981 rfl), (EN.nw q979 rfl)⟩) q980 q982 q86 q984 nmk_114 (rm_of hF (Nat.le_of_ble_eq_true rfl) (Nat.le_of_ble_eq_true rfl)) dX1_bothAgain_67 (tX1_bothAgain_72 EN G hF hC hxt h36 h64 h89) (sx_out G (fun z hz => (hxt z hz).elim)) ))
set_option maxHeartbeats 4000000 in
theorem tX1_bothAgain_55 {x : CX} {E : Nat → Value} {Q : Rs → HS → Prop} {X36 X64 X89 : Ct} (EN : EX x E) (G : Gd x cX1_bothAgain "ChantRules$Choir" yX1_bothAgain 9 (Option.some Jvm.ClassFile.FieldType.int) Q) (hF : x.1.2.2.2.frames = 7 ∧ x.1.2.2.2.locals = 185) (hC : x.2.2.2.2.2 = (fun _ => false)) (hxt : (∀ z ∈ x.2.2.1.2.1.exceptionTable.toList, False)) (h36 : Snd x 36 X36) (h64 : Snd x 64 X64) (h89 : Snd x 89 X89) : Snd x 55 (bX1_bothAgain_55 E Q X36 X64 X89) := by
  unfold bX1_bothAgain_55
  refine s_aload_n rfl G.b dX1_bothAgain_55 ?_
  refine s_aload_n rfl G.b dX1_bothAgain_56 ?_
  refine s_iconst (by decide) G.b dX1_bothAgain_57 ?_
  refine s_callV G (mX1_breathes EN) q1312 q1314 (sel_cons (r := (RX1, TX1, 4)) (by decide) rfl qs15 (sel_nil)) q77 q1315 nmk_126 (rm_of hF (Nat.le_of_ble_eq_true rfl) (Nat.le_of_ble_eq_true rfl)) dX1_bothAgain_58 ?_ (sx_out G (fun z hz => (hxt z hz).elim))
  refine s_iconst (by decide) G.b dX1_bothAgain_61 ?_
  refine s_istore G.b (by rw [G.nl]; decide) (fun _ _ => by rw [hC]) dX1_bothAgain_62 ?_
  exact h64
set_option maxHeartbeats 4000000 in
theorem tX1_bothAgain_36 {x : CX} {E : Nat → Value} {Q : Rs → HS → Prop} {X36 X64 X89 : Ct} (EN : EX x E) (G : Gd x cX1_bothAgain "ChantRules$Choir" yX1_bothAgain 9 (Option.some Jvm.ClassFile.FieldType.int) Q) (hF : x.1.2.2.2.frames = 7 ∧ x.1.2.2.2.locals = 185) (hC : x.2.2.2.2.2 = (fun _ => false)) (hxt : (∀ z ∈ x.2.2.1.2.1.exceptionTable.toList, False)) (h36 : Snd x 36 X36) (h64 : Snd x 64 X64) (h89 : Snd x 89 X89) : Snd x 36 (bX1_bothAgain_36 E Q X36 X64 X89) := by
  unfold bX1_bothAgain_36
  refine s_iload G.b dX1_bothAgain_36 ?_
  refine s_aload_n rfl G.b dX1_bothAgain_38 ?_
  refine s_alen G.b G.kn dX1_bothAgain_39 ?_
  refine s_icmpge (tgt := 55) G.b dX1_bothAgain_40 (by decide) (tX1_bothAgain_55 EN G hF hC hxt h36 h64 h89) ?_
  refine s_aload_n rfl G.b dX1_bothAgain_43 ?_
  refine s_iload G.b dX1_bothAgain_44 ?_
  refine s_ldcI G.b G.ow G.hts q1311 dX1_bothAgain_46 ?_
  refine s_iast G.b G.kn dX1_bothAgain_48 ?_
  refine s_iinc (by decide) G.b (by rw [G.nl]; decide) (fun _ _ => by rw [hC]) dX1_bothAgain_49 ?_
  exact s_goto (tgt := 36) G.b dX1_bothAgain_52 (by decide) h36
set_option maxHeartbeats 4000000 in
theorem tX1_bothAgain_27 {x : CX} {E : Nat → Value} {Q : Rs → HS → Prop} {X36 X64 X89 : Ct} (EN : EX x E) (G : Gd x cX1_bothAgain "ChantRules$Choir" yX1_bothAgain 9 (Option.some Jvm.ClassFile.FieldType.int) Q) (hF : x.1.2.2.2.frames = 7 ∧ x.1.2.2.2.locals = 185) (hC : x.2.2.2.2.2 = (fun _ => false)) (hxt : (∀ z ∈ x.2.2.1.2.1.exceptionTable.toList, False)) (h36 : Snd x 36 X36) (h64 : Snd x 64 X64) (h89 : Snd x 89 X89) : Snd x 27 (bX1_bothAgain_27 E Q X36 X64 X89) := by
  unfold bX1_bothAgain_27
  refine s_iconst (by decide) G.b dX1_bothAgain_27 ?_
  refine s_iadd G.b dX1_bothAgain_28 ?_
  refine s_imul G.b dX1_bothAgain_29 ?_
  refine s_newa (atype := .int) G.b G.kn G.gr G.hts q191 (by decide) (by decide) rfl (fun _ h => by cases h) (by decide) rfl dX1_bothAgain_30 ?_
  refine s_astore_n rfl G.b (by rw [G.nl]; decide) (fun _ _ => by rw [hC]) dX1_bothAgain_32 ?_
  refine s_iconst (by decide) G.b dX1_bothAgain_33 ?_
  refine s_istore G.b (by rw [G.nl]; decide) (fun _ _ => by rw [hC]) dX1_bothAgain_34 ?_
  exact h36
set_option maxHeartbeats 4000000 in
theorem tX1_bothAgain_0 {x : CX} {E : Nat → Value} {Q : Rs → HS → Prop} {X36 X64 X89 : Ct} (EN : EX x E) (G : Gd x cX1_bothAgain "ChantRules$Choir" yX1_bothAgain 9 (Option.some Jvm.ClassFile.FieldType.int) Q) (hF : x.1.2.2.2.frames = 7 ∧ x.1.2.2.2.locals = 185) (hC : x.2.2.2.2.2 = (fun _ => false)) (hxt : (∀ z ∈ x.2.2.1.2.1.exceptionTable.toList, False)) (h36 : Snd x 36 X36) (h64 : Snd x 64 X64) (h89 : Snd x 89 X89) : Snd x 0 (bX1_bothAgain_0 E Q X36 X64 X89) := by
  unfold bX1_bothAgain_0
  refine s_aload_n rfl G.b dX1_bothAgain_0 ?_
  refine s_getf G.b G.ow G.kn (G.hts _ q192) (fun _ h => h) fa_5 dX1_bothAgain_1 ?_
  refine s_iconst (by decide) G.b dX1_bothAgain_4 ?_
  refine s_aald G.b G.kn dX1_bothAgain_5 ?_
  refine s_getfN G.b G.ow G.kn (va_Nw.use rfl (va_Nw.warmF G.warm (EN.nw q182 rfl))) (fun _ h => h) fa_4 dX1_bothAgain_6 ?_
  refine s_aload_n rfl G.b dX1_bothAgain_9 ?_
  refine s_getf G.b G.ow G.kn (G.hts _ q192) (fun _ h => h) fa_5 dX1_bothAgain_10 ?_
  refine s_iconst (by decide) G.b dX1_bothAgain_13 ?_
  refine s_aald G.b G.kn dX1_bothAgain_14 ?_
  refine s_getfN G.b G.ow G.kn (va_Nw.use rfl (va_Nw.warmF G.warm (EN.nw q182 rfl))) (fun _ h => h) fa_4 dX1_bothAgain_15 ?_
  refine s_imul G.b dX1_bothAgain_18 ?_
  refine s_istore_n rfl G.b (by rw [G.nl]; decide) (fun _ _ => by rw [hC]) dX1_bothAgain_19 ?_
  refine s_iload_n rfl G.b dX1_bothAgain_20 ?_
  refine s_aload_n rfl G.b dX1_bothAgain_21 ?_
  exact (s_vsel (s_callF (r0 := (RJ5, TJ5, 4)) (w := ⟨"java/lang/CharSequence", "length", "()I"⟩) (by decide) rfl G (mJ5_length EN) q1310 (va_Fw.moved (by decide +kernel) G.warm.alike ⟨(EN.nw q978 rfl), (EN.nw q977 rfl), (EN.nw q993 rfl), (EN.nw q992 rfl), (EN.nw q990 rfl)⟩) q991 q937 q85 q939 nmk_114 (rm_of hF (Nat.le_of_ble_eq_true rfl) (Nat.le_of_ble_eq_true rfl)) dX1_bothAgain_22 (tX1_bothAgain_27 EN G hF hC hxt h36 h64 h89) (sx_out G (fun z hz => (hxt z hz).elim)) ) (s_callF (r0 := (RJ6, TJ6, 4)) (w := ⟨"java/lang/CharSequence", "length", "()I"⟩) (by decide) rfl G (mJ6_length EN) q1310 (va_Fw.moved (by decide +kernel) G.warm.alike ⟨(EN.nw q978 rfl), (EN.nw q977 rfl), (EN.nw q983 rfl), (EN.nw q981 rfl), (EN.nw q979 rfl)⟩) q980 q982 q86 q984 nmk_114 (rm_of hF (Nat.le_of_ble_eq_true rfl) (Nat.le_of_ble_eq_true rfl)) dX1_bothAgain_22 (tX1_bothAgain_27 EN G hF hC hxt h36 h64 h89) (sx_out G (fun z hz => (hxt z hz).elim)) ))
set_option maxHeartbeats 4000000 in
theorem mX1_bothAgain {l : Launch} {D : DE} {s0 : State} {E : Nat → Value} (EN : EV l D s0 E) : rMet l D s0 yX1_bothAgain (ws_ yX1_bothAgain cX1_bothAgain 9 (Option.some Jvm.ClassFile.FieldType.int)) 7 185 (wX1_bothAgain E) := by
  refine body_met (fun _ => false) EN.kn (fun w h => h) (by decide +kernel) rfl (fun av h Q hw => ?_) ?_
  · unfold wX1_bothAgain at hw
    split at hw
    · exact Nat.le_of_ble_eq_true rfl
    · exact hw.elim
  · intro p e s m below meth c av h Q hxt G hw
    unfold wX1_bothAgain at hw
    split at hw
    · exact tX1_bothAgain_0 EN G ⟨rfl, rfl⟩ rfl hxt (fun _ _ _ h => h) (fun _ _ _ h => h) (fun _ _ _ h => h) _ _ _ (hw (AW _ 36) (AW _ 64) (AW _ 89) (tX1_bothAgain_36 EN G ⟨rfl, rfl⟩ rfl hxt (fun _ _ _ h => h) (fun _ _ _ h => h) (fun _ _ _ h => h)) (tX1_bothAgain_64 EN G ⟨rfl, rfl⟩ rfl hxt (fun _ _ _ h => h) (fun _ _ _ h => h) (fun _ _ _ h => h)) (tX1_bothAgain_89 EN G ⟨rfl, rfl⟩ rfl hxt (fun _ _ _ h => h) (fun _ _ _ h => h) (fun _ _ _ h => h)))
    · exact hw.elim
/-! ChantRules.bothAgain()I (X0_bothAgain) -/
theorem nmk_127 : nm_ok yX1_bothAgain 1 := ⟨by decide +kernel, by decide +kernel, by decide +kernel⟩
def bX0_bothAgain_23 (E : Nat → Value) (Q : Rs → HS → Prop) : Ct :=
  o_ireturn .int Q
def bX0_bothAgain_21 (E : Nat → Value) (Q : Rs → HS → Prop) : Ct :=
  o_push (.int (-12)) <|
  (bX0_bothAgain_23 E Q)
def bX0_bothAgain_0 (E : Nat → Value) (Q : Rs → HS → Prop) : Ct :=
  o_aload 0 <|
  o_callV [0] 1 (wX0_isWord E) (x_out Q) <|
  o_ifeq (bX0_bothAgain_21 E Q) <|
  o_aload 0 <|
  o_getf [0] 1 <|
  o_aload 0 <|
  o_getf [0] 8 <|
  o_callV [1] 2 (wX1_bothAgain E) (x_out Q) <|
  (bX0_bothAgain_23 E Q)
def wX0_bothAgain (E : Nat → Value) : Wp := fun av h Q => match av with
  | [a0] => bX0_bothAgain_0 E Q [a0] [] h
  | _ => False
set_option maxHeartbeats 4000000 in
theorem tX0_bothAgain_23 {x : CX} {E : Nat → Value} {Q : Rs → HS → Prop} (EN : EX x E) (G : Gd x cX0_bothAgain "ChantRules" yX0_bothAgain 1 (Option.some Jvm.ClassFile.FieldType.int) Q) (hF : x.1.2.2.2.frames = 8 ∧ x.1.2.2.2.locals = 213) (hC : x.2.2.2.2.2 = (fun _ => false)) (hxt : (∀ z ∈ x.2.2.1.2.1.exceptionTable.toList, False)) : Snd x 23 (bX0_bothAgain_23 E Q) := by
  unfold bX0_bothAgain_23
  exact s_ireturn G dX0_bothAgain_23
set_option maxHeartbeats 4000000 in
theorem tX0_bothAgain_21 {x : CX} {E : Nat → Value} {Q : Rs → HS → Prop} (EN : EX x E) (G : Gd x cX0_bothAgain "ChantRules" yX0_bothAgain 1 (Option.some Jvm.ClassFile.FieldType.int) Q) (hF : x.1.2.2.2.frames = 8 ∧ x.1.2.2.2.locals = 213) (hC : x.2.2.2.2.2 = (fun _ => false)) (hxt : (∀ z ∈ x.2.2.1.2.1.exceptionTable.toList, False)) : Snd x 21 (bX0_bothAgain_21 E Q) := by
  unfold bX0_bothAgain_21
  refine s_bipush (by decide) G.b dX0_bothAgain_21 ?_
  exact (tX0_bothAgain_23 EN G hF hC hxt)
set_option maxHeartbeats 4000000 in
theorem tX0_bothAgain_0 {x : CX} {E : Nat → Value} {Q : Rs → HS → Prop} (EN : EX x E) (G : Gd x cX0_bothAgain "ChantRules" yX0_bothAgain 1 (Option.some Jvm.ClassFile.FieldType.int) Q) (hF : x.1.2.2.2.frames = 8 ∧ x.1.2.2.2.locals = 213) (hC : x.2.2.2.2.2 = (fun _ => false)) (hxt : (∀ z ∈ x.2.2.1.2.1.exceptionTable.toList, False)) : Snd x 0 (bX0_bothAgain_0 E Q) := by
  unfold bX0_bothAgain_0
  refine s_aload_n rfl G.b dX0_bothAgain_0 ?_
  refine s_callV G (mX0_isWord EN) q932 q934 (sel_cons (r := (RX0, TX0, 10)) (by decide) rfl qs10 (sel_nil)) q76 q935 nmk_118 (rm_of hF (Nat.le_of_ble_eq_true rfl) (Nat.le_of_ble_eq_true rfl)) dX0_bothAgain_1 ?_ (sx_out G (fun z hz => (hxt z hz).elim))
  refine s_ifeq (tgt := 21) G.b dX0_bothAgain_4 (by decide) (tX0_bothAgain_21 EN G hF hC hxt) ?_
  refine s_aload_n rfl G.b dX0_bothAgain_7 ?_
  refine s_getf G.b G.ow G.kn (G.hts _ q300) (fun _ h => h) fa_11 dX0_bothAgain_8 ?_
  refine s_aload_n rfl G.b dX0_bothAgain_11 ?_
  refine s_getf G.b G.ow G.kn (G.hts _ q307) (fun _ h => h) fa_13 dX0_bothAgain_12 ?_
  refine s_callV G (mX1_bothAgain EN) q1305 q1306 (sel_cons (r := (RX1, TX1, 4)) (by decide) rfl q1307 (sel_nil)) q77 q1308 nmk_127 (rm_of hF (Nat.le_of_ble_eq_true rfl) (Nat.le_of_ble_eq_true rfl)) dX0_bothAgain_15 ?_ (sx_out G (fun z hz => (hxt z hz).elim))
  exact s_goto (tgt := 23) G.b dX0_bothAgain_18 (by decide) (tX0_bothAgain_23 EN G hF hC hxt)
set_option maxHeartbeats 4000000 in
theorem mX0_bothAgain {l : Launch} {D : DE} {s0 : State} {E : Nat → Value} (EN : EV l D s0 E) : rMet l D s0 yX0_bothAgain (ws_ yX0_bothAgain cX0_bothAgain 1 (Option.some Jvm.ClassFile.FieldType.int)) 8 213 (wX0_bothAgain E) := by
  refine body_met (fun _ => false) EN.kn (fun w h => h) (by decide +kernel) rfl (fun av h Q hw => ?_) ?_
  · unfold wX0_bothAgain at hw
    split at hw
    · exact Nat.le_of_ble_eq_true rfl
    · exact hw.elim
  · intro p e s m below meth c av h Q hxt G hw
    unfold wX0_bothAgain at hw
    split at hw
    · exact tX0_bothAgain_0 EN G ⟨rfl, rfl⟩ rfl hxt _ _ _ hw
    · exact hw.elim
/-! ChantRules$Machine.from(IZ)[Z (X2_from) -/
def bX2_from_123 (E : Nat → Value) (Q : Rs → HS → Prop) (X14 X31 : Ct) : Ct :=
  o_aload 3 <|
  o_areturn Q
def bX2_from_120 (E : Nat → Value) (Q : Rs → HS → Prop) (X14 X31 : Ct) : Ct :=
  X14
def bX2_from_104 (E : Nat → Value) (Q : Rs → HS → Prop) (X14 X31 : Ct) : Ct :=
  o_dup2 <|
  o_ald [101, 102] <|
  o_iload 7 <|
  o_ior <|
  o_ast [(101, .boolean), (102, .byte)] <|
  o_iload 4 <|
  o_iload 7 <|
  o_ior <|
  o_istore 4 <|
  X31
def bX2_from_94 (E : Nat → Value) (Q : Rs → HS → Prop) (X14 X31 : Ct) : Ct :=
  o_istore 7 <|
  o_aload 3 <|
  o_aload 6 <|
  o_vsel 1 [10] (o_callV [10] 1 (wX7_to E) (x_out Q) (bX2_from_104 E Q X14 X31)) (o_callV [11] 1 (wX8_to E) (x_out Q) (bX2_from_104 E Q X14 X31))
def bX2_from_93 (E : Nat → Value) (Q : Rs → HS → Prop) (X14 X31 : Ct) : Ct :=
  o_push (.int 0) <|
  (bX2_from_94 E Q X14 X31)
def bX2_from_89 (E : Nat → Value) (Q : Rs → HS → Prop) (X14 X31 : Ct) : Ct :=
  o_push (.int 1) <|
  (bX2_from_94 E Q X14 X31)
def bX2_from_73 (E : Nat → Value) (Q : Rs → HS → Prop) (X14 X31 : Ct) : Ct :=
  o_ald [101, 102] <|
  o_ifne (bX2_from_93 E Q X14 X31) <|
  o_iload 2 <|
  o_ifeq (bX2_from_89 E Q X14 X31) <|
  o_aload 6 <|
  o_inst [10] [11] <|
  o_ifeq (bX2_from_93 E Q X14 X31) <|
  (bX2_from_89 E Q X14 X31)
def bX2_from_61 (E : Nat → Value) (Q : Rs → HS → Prop) (X14 X31 : Ct) : Ct :=
  o_ald [101, 102] <|
  o_ifeq (bX2_from_93 E Q X14 X31) <|
  o_aload 3 <|
  o_aload 6 <|
  o_vsel 1 [10] (o_callV [10] 1 (wX7_to E) (x_out Q) (bX2_from_73 E Q X14 X31)) (o_callV [11] 1 (wX8_to E) (x_out Q) (bX2_from_73 E Q X14 X31))
def bX2_from_31 (E : Nat → Value) (Q : Rs → HS → Prop) (X14 X31 : Ct) : Ct :=
  o_aload 5 <|
  o_callV [20] 1 (wJ9_hasNext E) (x_out Q) <|
  o_ifeq (bX2_from_120 E Q X14 X31) <|
  o_aload 5 <|
  o_callV [20] 1 (wJ9_next E) (x_out Q) <|
  o_cast [10, 11] <|
  o_astore 6 <|
  o_aload 3 <|
  o_aload 6 <|
  o_vsel 1 [10] (o_callV [10] 1 (wX7_from E) (x_out Q) (bX2_from_61 E Q X14 X31)) (o_callV [11] 1 (wX8_from E) (x_out Q) (bX2_from_61 E Q X14 X31))
def bX2_from_26 (E : Nat → Value) (Q : Rs → HS → Prop) (X14 X31 : Ct) : Ct :=
  o_callV [15] 1 (wJ2_iterator E) (x_out Q) <|
  o_astore 5 <|
  X31
def bX2_from_14 (E : Nat → Value) (Q : Rs → HS → Prop) (X14 X31 : Ct) : Ct :=
  o_iload 4 <|
  o_ifeq (bX2_from_123 E Q X14 X31) <|
  o_push (.int 0) <|
  o_istore 4 <|
  o_aload 0 <|
  o_vsel 1 [2] (o_callV [2] 1 (wX3_arcs E) (x_out Q) (bX2_from_26 E Q X14 X31)) (o_callV [4] 1 (wX11_arcs E) (x_out Q) (bX2_from_26 E Q X14 X31))
def bX2_from_4 (E : Nat → Value) (Q : Rs → HS → Prop) (X14 X31 : Ct) : Ct :=
  o_newa 101 (.int 0) <|
  o_astore 3 <|
  o_aload 3 <|
  o_iload 1 <|
  o_push (.int 1) <|
  o_ast [(101, .boolean), (102, .byte)] <|
  o_push (.int 1) <|
  o_istore 4 <|
  X14
def bX2_from_0 (E : Nat → Value) (Q : Rs → HS → Prop) (X14 X31 : Ct) : Ct :=
  o_aload 0 <|
  o_vsel 1 [2] (o_callV [2] 1 (wX3_states E) (x_out Q) (bX2_from_4 E Q X14 X31)) (o_callV [4] 1 (wX11_states E) (x_out Q) (bX2_from_4 E Q X14 X31))
def wX2_from (E : Nat → Value) : Wp := fun av h Q => match av with
  | [a0, a1, a2] => ∀ X14 X31 : Ct, (∀ ls st h, bX2_from_14 E Q X14 X31 ls st h → X14 ls st h) → (∀ ls st h, bX2_from_31 E Q X14 X31 ls st h → X31 ls st h) → bX2_from_0 E Q X14 X31 [a0, a1, a2, jk, jk, jk, jk, jk] [] h
  | _ => False
set_option maxHeartbeats 4000000 in
theorem tX2_from_123 {x : CX} {E : Nat → Value} {Q : Rs → HS → Prop} {X14 X31 : Ct} (EN : EX x E) (G : Gd x cX2_from "ChantRules$Machine" yX2_from 8 (Option.some (Jvm.ClassFile.FieldType.array Jvm.ClassFile.FieldType.boolean)) Q) (hF : x.1.2.2.2.frames = 4 ∧ x.1.2.2.2.locals = 106) (hC : x.2.2.2.2.2 = (fun _ => false)) (hxt : (∀ z ∈ x.2.2.1.2.1.exceptionTable.toList, False)) (h14 : Snd x 14 X14) (h31 : Snd x 31 X31) : Snd x 123 (bX2_from_123 E Q X14 X31) := by
  unfold bX2_from_123
  refine s_aload_n rfl G.b dX2_from_123 ?_
  exact s_areturn (Or.inr ⟨_, rfl⟩) G dX2_from_124
set_option maxHeartbeats 4000000 in
theorem tX2_from_120 {x : CX} {E : Nat → Value} {Q : Rs → HS → Prop} {X14 X31 : Ct} (EN : EX x E) (G : Gd x cX2_from "ChantRules$Machine" yX2_from 8 (Option.some (Jvm.ClassFile.FieldType.array Jvm.ClassFile.FieldType.boolean)) Q) (hF : x.1.2.2.2.frames = 4 ∧ x.1.2.2.2.locals = 106) (hC : x.2.2.2.2.2 = (fun _ => false)) (hxt : (∀ z ∈ x.2.2.1.2.1.exceptionTable.toList, False)) (h14 : Snd x 14 X14) (h31 : Snd x 31 X31) : Snd x 120 (bX2_from_120 E Q X14 X31) := by
  unfold bX2_from_120
  exact s_goto (tgt := 14) G.b dX2_from_120 (by decide) h14
set_option maxHeartbeats 4000000 in
theorem tX2_from_104 {x : CX} {E : Nat → Value} {Q : Rs → HS → Prop} {X14 X31 : Ct} (EN : EX x E) (G : Gd x cX2_from "ChantRules$Machine" yX2_from 8 (Option.some (Jvm.ClassFile.FieldType.array Jvm.ClassFile.FieldType.boolean)) Q) (hF : x.1.2.2.2.frames = 4 ∧ x.1.2.2.2.locals = 106) (hC : x.2.2.2.2.2 = (fun _ => false)) (hxt : (∀ z ∈ x.2.2.1.2.1.exceptionTable.toList, False)) (h14 : Snd x 14 X14) (h31 : Snd x 31 X31) : Snd x 104 (bX2_from_104 E Q X14 X31) := by
  unfold bX2_from_104
  refine s_dup2 G.b dX2_from_104 ?_
  refine s_bald G.b G.kn dX2_from_105 ?_
  refine s_iload G.b dX2_from_106 ?_
  refine s_ior G.b dX2_from_108 ?_
  refine s_bast G.b G.kn dX2_from_109 ?_
  refine s_iload G.b dX2_from_110 ?_
  refine s_iload G.b dX2_from_112 ?_
  refine s_ior G.b dX2_from_114 ?_
  refine s_istore G.b (by rw [G.nl]; decide) (fun _ _ => by rw [hC]) dX2_from_115 ?_
  exact s_goto (tgt := 31) G.b dX2_from_117 (by decide) h31
set_option maxHeartbeats 4000000 in
theorem tX2_from_94 {x : CX} {E : Nat → Value} {Q : Rs → HS → Prop} {X14 X31 : Ct} (EN : EX x E) (G : Gd x cX2_from "ChantRules$Machine" yX2_from 8 (Option.some (Jvm.ClassFile.FieldType.array Jvm.ClassFile.FieldType.boolean)) Q) (hF : x.1.2.2.2.frames = 4 ∧ x.1.2.2.2.locals = 106) (hC : x.2.2.2.2.2 = (fun _ => false)) (hxt : (∀ z ∈ x.2.2.1.2.1.exceptionTable.toList, False)) (h14 : Snd x 14 X14) (h31 : Snd x 31 X31) : Snd x 94 (bX2_from_94 E Q X14 X31) := by
  unfold bX2_from_94
  refine s_istore G.b (by rw [G.nl]; decide) (fun _ _ => by rw [hC]) dX2_from_94 ?_
  refine s_aload_n rfl G.b dX2_from_96 ?_
  refine s_aload G.b dX2_from_97 ?_
  exact (s_vsel (s_callF (r0 := (RX7, TX7, 4)) (w := ⟨"ChantRules$Arc", "to", "()I"⟩) (by decide) rfl G (mX7_to EN) q893 (va_Fw.moved (by decide +kernel) G.warm.alike ⟨(EN.nw q726 rfl), (EN.nw q725 rfl), (EN.nw q730 rfl), (EN.nw q728 rfl), (EN.nw q287 rfl)⟩) q727 q729 q99 q731 nmk_69 (rm_of hF (Nat.le_of_ble_eq_true rfl) (Nat.le_of_ble_eq_true rfl)) dX2_from_99 (tX2_from_104 EN G hF hC hxt h14 h31) (sx_out G (fun z hz => (hxt z hz).elim)) ) (s_callF (r0 := (RX8, TX8, 5)) (w := ⟨"ChantRules$Arc", "to", "()I"⟩) (by decide) rfl G (mX8_to EN) q893 (va_Fw.moved (by decide +kernel) G.warm.alike ⟨(EN.nw q726 rfl), (EN.nw q725 rfl), (EN.nw q735 rfl), (EN.nw q733 rfl), (EN.nw q293 rfl)⟩) q732 q734 q100 q736 nmk_69 (rm_of hF (Nat.le_of_ble_eq_true rfl) (Nat.le_of_ble_eq_true rfl)) dX2_from_99 (tX2_from_104 EN G hF hC hxt h14 h31) (sx_out G (fun z hz => (hxt z hz).elim)) ))
set_option maxHeartbeats 4000000 in
theorem tX2_from_93 {x : CX} {E : Nat → Value} {Q : Rs → HS → Prop} {X14 X31 : Ct} (EN : EX x E) (G : Gd x cX2_from "ChantRules$Machine" yX2_from 8 (Option.some (Jvm.ClassFile.FieldType.array Jvm.ClassFile.FieldType.boolean)) Q) (hF : x.1.2.2.2.frames = 4 ∧ x.1.2.2.2.locals = 106) (hC : x.2.2.2.2.2 = (fun _ => false)) (hxt : (∀ z ∈ x.2.2.1.2.1.exceptionTable.toList, False)) (h14 : Snd x 14 X14) (h31 : Snd x 31 X31) : Snd x 93 (bX2_from_93 E Q X14 X31) := by
  unfold bX2_from_93
  refine s_iconst (by decide) G.b dX2_from_93 ?_
  exact (tX2_from_94 EN G hF hC hxt h14 h31)
set_option maxHeartbeats 4000000 in
theorem tX2_from_89 {x : CX} {E : Nat → Value} {Q : Rs → HS → Prop} {X14 X31 : Ct} (EN : EX x E) (G : Gd x cX2_from "ChantRules$Machine" yX2_from 8 (Option.some (Jvm.ClassFile.FieldType.array Jvm.ClassFile.FieldType.boolean)) Q) (hF : x.1.2.2.2.frames = 4 ∧ x.1.2.2.2.locals = 106) (hC : x.2.2.2.2.2 = (fun _ => false)) (hxt : (∀ z ∈ x.2.2.1.2.1.exceptionTable.toList, False)) (h14 : Snd x 14 X14) (h31 : Snd x 31 X31) : Snd x 89 (bX2_from_89 E Q X14 X31) := by
  unfold bX2_from_89
  refine s_iconst (by decide) G.b dX2_from_89 ?_
  exact s_goto (tgt := 94) G.b dX2_from_90 (by decide) (tX2_from_94 EN G hF hC hxt h14 h31)
set_option maxHeartbeats 4000000 in
theorem tX2_from_73 {x : CX} {E : Nat → Value} {Q : Rs → HS → Prop} {X14 X31 : Ct} (EN : EX x E) (G : Gd x cX2_from "ChantRules$Machine" yX2_from 8 (Option.some (Jvm.ClassFile.FieldType.array Jvm.ClassFile.FieldType.boolean)) Q) (hF : x.1.2.2.2.frames = 4 ∧ x.1.2.2.2.locals = 106) (hC : x.2.2.2.2.2 = (fun _ => false)) (hxt : (∀ z ∈ x.2.2.1.2.1.exceptionTable.toList, False)) (h14 : Snd x 14 X14) (h31 : Snd x 31 X31) : Snd x 73 (bX2_from_73 E Q X14 X31) := by
  unfold bX2_from_73
  refine s_bald G.b G.kn dX2_from_73 ?_
  refine s_ifne (tgt := 93) G.b dX2_from_74 (by decide) (tX2_from_93 EN G hF hC hxt h14 h31) ?_
  refine s_iload_n rfl G.b dX2_from_77 ?_
  refine s_ifeq (tgt := 89) G.b dX2_from_78 (by decide) (tX2_from_89 EN G hF hC hxt h14 h31) ?_
  refine s_aload G.b dX2_from_81 ?_
  refine s_inst G.b G.ow G.kn G.hts q894 ct_6y ct_6n dX2_from_83 ?_
  refine s_ifeq (tgt := 93) G.b dX2_from_86 (by decide) (tX2_from_93 EN G hF hC hxt h14 h31) ?_
  exact (tX2_from_89 EN G hF hC hxt h14 h31)
set_option maxHeartbeats 4000000 in
theorem tX2_from_61 {x : CX} {E : Nat → Value} {Q : Rs → HS → Prop} {X14 X31 : Ct} (EN : EX x E) (G : Gd x cX2_from "ChantRules$Machine" yX2_from 8 (Option.some (Jvm.ClassFile.FieldType.array Jvm.ClassFile.FieldType.boolean)) Q) (hF : x.1.2.2.2.frames = 4 ∧ x.1.2.2.2.locals = 106) (hC : x.2.2.2.2.2 = (fun _ => false)) (hxt : (∀ z ∈ x.2.2.1.2.1.exceptionTable.toList, False)) (h14 : Snd x 14 X14) (h31 : Snd x 31 X31) : Snd x 61 (bX2_from_61 E Q X14 X31) := by
  unfold bX2_from_61
  refine s_bald G.b G.kn dX2_from_61 ?_
  refine s_ifeq (tgt := 93) G.b dX2_from_62 (by decide) (tX2_from_93 EN G hF hC hxt h14 h31) ?_
  refine s_aload_n rfl G.b dX2_from_65 ?_
  refine s_aload G.b dX2_from_66 ?_
  exact (s_vsel (s_callF (r0 := (RX7, TX7, 4)) (w := ⟨"ChantRules$Arc", "to", "()I"⟩) (by decide) rfl G (mX7_to EN) q893 (va_Fw.moved (by decide +kernel) G.warm.alike ⟨(EN.nw q726 rfl), (EN.nw q725 rfl), (EN.nw q730 rfl), (EN.nw q728 rfl), (EN.nw q287 rfl)⟩) q727 q729 q99 q731 nmk_69 (rm_of hF (Nat.le_of_ble_eq_true rfl) (Nat.le_of_ble_eq_true rfl)) dX2_from_68 (tX2_from_73 EN G hF hC hxt h14 h31) (sx_out G (fun z hz => (hxt z hz).elim)) ) (s_callF (r0 := (RX8, TX8, 5)) (w := ⟨"ChantRules$Arc", "to", "()I"⟩) (by decide) rfl G (mX8_to EN) q893 (va_Fw.moved (by decide +kernel) G.warm.alike ⟨(EN.nw q726 rfl), (EN.nw q725 rfl), (EN.nw q735 rfl), (EN.nw q733 rfl), (EN.nw q293 rfl)⟩) q732 q734 q100 q736 nmk_69 (rm_of hF (Nat.le_of_ble_eq_true rfl) (Nat.le_of_ble_eq_true rfl)) dX2_from_68 (tX2_from_73 EN G hF hC hxt h14 h31) (sx_out G (fun z hz => (hxt z hz).elim)) ))
set_option maxHeartbeats 4000000 in
theorem tX2_from_31 {x : CX} {E : Nat → Value} {Q : Rs → HS → Prop} {X14 X31 : Ct} (EN : EX x E) (G : Gd x cX2_from "ChantRules$Machine" yX2_from 8 (Option.some (Jvm.ClassFile.FieldType.array Jvm.ClassFile.FieldType.boolean)) Q) (hF : x.1.2.2.2.frames = 4 ∧ x.1.2.2.2.locals = 106) (hC : x.2.2.2.2.2 = (fun _ => false)) (hxt : (∀ z ∈ x.2.2.1.2.1.exceptionTable.toList, False)) (h14 : Snd x 14 X14) (h31 : Snd x 31 X31) : Snd x 31 (bX2_from_31 E Q X14 X31) := by
  unfold bX2_from_31
  refine s_aload G.b dX2_from_31 ?_
  refine s_callF (r0 := (RJ9, TJ9, 4)) (w := ⟨"java/util/Iterator", "hasNext", "()Z"⟩) (by decide) rfl G (mJ9_hasNext EN) q886 (va_Fw.moved (by decide +kernel) G.warm.alike ⟨(EN.nw q380 rfl), (EN.nw q379 rfl), (EN.nw q385 rfl), (EN.nw q383 rfl), (EN.nw q381 rfl)⟩) q382 q384 q91 q386 nmk_15 (rm_of hF (Nat.le_of_ble_eq_true rfl) (Nat.le_of_ble_eq_true rfl)) dX2_from_33 ?_ (sx_out G (fun z hz => (hxt z hz).elim))
  refine s_ifeq (tgt := 120) G.b dX2_from_38 (by decide) (tX2_from_120 EN G hF hC hxt h14 h31) ?_
  refine s_aload G.b dX2_from_41 ?_
  refine s_callF (r0 := (RJ9, TJ9, 4)) (w := ⟨"java/util/Iterator", "next", "()Ljava/lang/Object;"⟩) (by decide) rfl G (mJ9_next EN) q888 (va_Fw.moved (by decide +kernel) G.warm.alike ⟨(EN.nw q390 rfl), (EN.nw q389 rfl), (EN.nw q394 rfl), (EN.nw q392 rfl), (EN.nw q381 rfl)⟩) q391 q393 q91 q395 nmk_16 (rm_of hF (Nat.le_of_ble_eq_true rfl) (Nat.le_of_ble_eq_true rfl)) dX2_from_43 ?_ (sx_out G (fun z hz => (hxt z hz).elim))
  refine s_cast G.b G.ow G.kn G.hts q889 ct_1 dX2_from_48 ?_
  refine s_astore G.b (by rw [G.nl]; decide) (fun _ _ => by rw [hC]) dX2_from_51 ?_
  refine s_aload_n rfl G.b dX2_from_53 ?_
  refine s_aload G.b dX2_from_54 ?_
  exact (s_vsel (s_callF (r0 := (RX7, TX7, 4)) (w := ⟨"ChantRules$Arc", "from", "()I"⟩) (by decide) rfl G (mX7_from EN) q891 (va_Fw.moved (by decide +kernel) G.warm.alike ⟨(EN.nw q712 rfl), (EN.nw q711 rfl), (EN.nw q716 rfl), (EN.nw q714 rfl), (EN.nw q287 rfl)⟩) q713 q715 q99 q717 nmk_70 (rm_of hF (Nat.le_of_ble_eq_true rfl) (Nat.le_of_ble_eq_true rfl)) dX2_from_56 (tX2_from_61 EN G hF hC hxt h14 h31) (sx_out G (fun z hz => (hxt z hz).elim)) ) (s_callF (r0 := (RX8, TX8, 5)) (w := ⟨"ChantRules$Arc", "from", "()I"⟩) (by decide) rfl G (mX8_from EN) q891 (va_Fw.moved (by decide +kernel) G.warm.alike ⟨(EN.nw q712 rfl), (EN.nw q711 rfl), (EN.nw q721 rfl), (EN.nw q719 rfl), (EN.nw q293 rfl)⟩) q718 q720 q100 q722 nmk_70 (rm_of hF (Nat.le_of_ble_eq_true rfl) (Nat.le_of_ble_eq_true rfl)) dX2_from_56 (tX2_from_61 EN G hF hC hxt h14 h31) (sx_out G (fun z hz => (hxt z hz).elim)) ))
set_option maxHeartbeats 4000000 in
theorem tX2_from_26 {x : CX} {E : Nat → Value} {Q : Rs → HS → Prop} {X14 X31 : Ct} (EN : EX x E) (G : Gd x cX2_from "ChantRules$Machine" yX2_from 8 (Option.some (Jvm.ClassFile.FieldType.array Jvm.ClassFile.FieldType.boolean)) Q) (hF : x.1.2.2.2.frames = 4 ∧ x.1.2.2.2.locals = 106) (hC : x.2.2.2.2.2 = (fun _ => false)) (hxt : (∀ z ∈ x.2.2.1.2.1.exceptionTable.toList, False)) (h14 : Snd x 14 X14) (h31 : Snd x 31 X31) : Snd x 26 (bX2_from_26 E Q X14 X31) := by
  unfold bX2_from_26
  refine s_callV G (mJ2_iterator EN) q884 q355 (sel_cons (r := (RJ2, TJ2, 3)) (by decide) rfl q356 (sel_nil)) q82 q357 nmk_18 (rm_of hF (Nat.le_of_ble_eq_true rfl) (Nat.le_of_ble_eq_true rfl)) dX2_from_26 ?_ (sx_out G (fun z hz => (hxt z hz).elim))
  refine s_astore G.b (by rw [G.nl]; decide) (fun _ _ => by rw [hC]) dX2_from_29 ?_
  exact h31
set_option maxHeartbeats 4000000 in
theorem tX2_from_14 {x : CX} {E : Nat → Value} {Q : Rs → HS → Prop} {X14 X31 : Ct} (EN : EX x E) (G : Gd x cX2_from "ChantRules$Machine" yX2_from 8 (Option.some (Jvm.ClassFile.FieldType.array Jvm.ClassFile.FieldType.boolean)) Q) (hF : x.1.2.2.2.frames = 4 ∧ x.1.2.2.2.locals = 106) (hC : x.2.2.2.2.2 = (fun _ => false)) (hxt : (∀ z ∈ x.2.2.1.2.1.exceptionTable.toList, False)) (h14 : Snd x 14 X14) (h31 : Snd x 31 X31) : Snd x 14 (bX2_from_14 E Q X14 X31) := by
  unfold bX2_from_14
  refine s_iload G.b dX2_from_14 ?_
  refine s_ifeq (tgt := 123) G.b dX2_from_16 (by decide) (tX2_from_123 EN G hF hC hxt h14 h31) ?_
  refine s_iconst (by decide) G.b dX2_from_19 ?_
  refine s_istore G.b (by rw [G.nl]; decide) (fun _ _ => by rw [hC]) dX2_from_20 ?_
  refine s_aload_n rfl G.b dX2_from_22 ?_
  exact (s_vsel (s_callVU (w := ⟨"ChantRules$Machine", "arcs", "()Ljava/util/ArrayList;"⟩) (owner := "ChantRules$Machine") G (mX3_arcs EN) q875 q877 (va_Decl.abs (va_Nw.warmD G.warm (EN.nw q876 rfl))) (by decide +kernel) q882 (sel_cons (r := (RX3, TX3, 3)) (by decide) rfl q881 (sel_nil)) q79 q883 nmk_108 (rm_of hF (Nat.le_of_ble_eq_true rfl) (Nat.le_of_ble_eq_true rfl)) dX2_from_23 (tX2_from_26 EN G hF hC hxt h14 h31) (sx_out G (fun z hz => (hxt z hz).elim)) ) (s_callVU (w := ⟨"ChantRules$Machine", "arcs", "()Ljava/util/ArrayList;"⟩) (owner := "ChantRules$Machine") G (mX11_arcs EN) q875 q877 (va_Decl.abs (va_Nw.warmD G.warm (EN.nw q876 rfl))) (by decide +kernel) q879 (sel_cons (r := (RX11, TX11, 3)) (by decide) rfl q878 (sel_nil)) q106 q880 nmk_108 (rm_of hF (Nat.le_of_ble_eq_true rfl) (Nat.le_of_ble_eq_true rfl)) dX2_from_23 (tX2_from_26 EN G hF hC hxt h14 h31) (sx_out G (fun z hz => (hxt z hz).elim)) ))
set_option maxHeartbeats 4000000 in
theorem tX2_from_4 {x : CX} {E : Nat → Value} {Q : Rs → HS → Prop} {X14 X31 : Ct} (EN : EX x E) (G : Gd x cX2_from "ChantRules$Machine" yX2_from 8 (Option.some (Jvm.ClassFile.FieldType.array Jvm.ClassFile.FieldType.boolean)) Q) (hF : x.1.2.2.2.frames = 4 ∧ x.1.2.2.2.locals = 106) (hC : x.2.2.2.2.2 = (fun _ => false)) (hxt : (∀ z ∈ x.2.2.1.2.1.exceptionTable.toList, False)) (h14 : Snd x 14 X14) (h31 : Snd x 31 X31) : Snd x 4 (bX2_from_4 E Q X14 X31) := by
  unfold bX2_from_4
  refine s_newa (atype := .boolean) G.b G.kn G.gr G.hts q927 (by decide) (by decide) rfl (fun _ h => by cases h) (by decide) rfl dX2_from_4 ?_
  refine s_astore_n rfl G.b (by rw [G.nl]; decide) (fun _ _ => by rw [hC]) dX2_from_6 ?_
  refine s_aload_n rfl G.b dX2_from_7 ?_
  refine s_iload_n rfl G.b dX2_from_8 ?_
  refine s_iconst (by decide) G.b dX2_from_9 ?_
  refine s_bast G.b G.kn dX2_from_10 ?_
  refine s_iconst (by decide) G.b dX2_from_11 ?_
  refine s_istore G.b (by rw [G.nl]; decide) (fun _ _ => by rw [hC]) dX2_from_12 ?_
  exact h14
set_option maxHeartbeats 4000000 in
theorem tX2_from_0 {x : CX} {E : Nat → Value} {Q : Rs → HS → Prop} {X14 X31 : Ct} (EN : EX x E) (G : Gd x cX2_from "ChantRules$Machine" yX2_from 8 (Option.some (Jvm.ClassFile.FieldType.array Jvm.ClassFile.FieldType.boolean)) Q) (hF : x.1.2.2.2.frames = 4 ∧ x.1.2.2.2.locals = 106) (hC : x.2.2.2.2.2 = (fun _ => false)) (hxt : (∀ z ∈ x.2.2.1.2.1.exceptionTable.toList, False)) (h14 : Snd x 14 X14) (h31 : Snd x 31 X31) : Snd x 0 (bX2_from_0 E Q X14 X31) := by
  unfold bX2_from_0
  refine s_aload_n rfl G.b dX2_from_0 ?_
  exact (s_vsel (s_callVU (w := ⟨"ChantRules$Machine", "states", "()I"⟩) (owner := "ChantRules$Machine") G (mX3_states EN) q866 q868 (va_Decl.abs (va_Nw.warmD G.warm (EN.nw q867 rfl))) (by decide +kernel) q873 (sel_cons (r := (RX3, TX3, 3)) (by decide) rfl q872 (sel_nil)) q79 q874 nmk_115 (rm_of hF (Nat.le_of_ble_eq_true rfl) (Nat.le_of_ble_eq_true rfl)) dX2_from_1 (tX2_from_4 EN G hF hC hxt h14 h31) (sx_out G (fun z hz => (hxt z hz).elim)) ) (s_callVU (w := ⟨"ChantRules$Machine", "states", "()I"⟩) (owner := "ChantRules$Machine") G (mX11_states EN) q866 q868 (va_Decl.abs (va_Nw.warmD G.warm (EN.nw q867 rfl))) (by decide +kernel) q870 (sel_cons (r := (RX11, TX11, 3)) (by decide) rfl q869 (sel_nil)) q106 q871 nmk_115 (rm_of hF (Nat.le_of_ble_eq_true rfl) (Nat.le_of_ble_eq_true rfl)) dX2_from_1 (tX2_from_4 EN G hF hC hxt h14 h31) (sx_out G (fun z hz => (hxt z hz).elim)) ))
set_option maxHeartbeats 4000000 in
theorem mX2_from {l : Launch} {D : DE} {s0 : State} {E : Nat → Value} (EN : EV l D s0 E) : rMet l D s0 yX2_from (ws_ yX2_from cX2_from 8 (Option.some (Jvm.ClassFile.FieldType.array Jvm.ClassFile.FieldType.boolean))) 4 106 (wX2_from E) := by
  refine body_met (fun _ => false) EN.kn (fun w h => h) (by decide +kernel) rfl (fun av h Q hw => ?_) ?_
  · unfold wX2_from at hw
    split at hw
    · exact Nat.le_of_ble_eq_true rfl
    · exact hw.elim
  · intro p e s m below meth c av h Q hxt G hw
    unfold wX2_from at hw
    split at hw
    · exact tX2_from_0 EN G ⟨rfl, rfl⟩ rfl hxt (fun _ _ _ h => h) (fun _ _ _ h => h) _ _ _ (hw (AW _ 14) (AW _ 31) (tX2_from_14 EN G ⟨rfl, rfl⟩ rfl hxt (fun _ _ _ h => h) (fun _ _ _ h => h)) (tX2_from_31 EN G ⟨rfl, rfl⟩ rfl hxt (fun _ _ _ h => h) (fun _ _ _ h => h)))
    · exact hw.elim
/-! ChantRules$Machine.reached()[Z (X2_reached) -/
theorem nmk_128 : nm_ok yX2_from 2 := ⟨by decide +kernel, by decide +kernel, by decide +kernel⟩
def bX2_reached_0 (E : Nat → Value) (Q : Rs → HS → Prop) : Ct :=
  o_aload 0 <|
  o_push (.int 0) <|
  o_push (.int 0) <|
  o_callV [2, 4] 3 (wX2_from E) (x_out Q) <|
  o_areturn Q
def wX2_reached (E : Nat → Value) : Wp := fun av h Q => match av with
  | [a0] => bX2_reached_0 E Q [a0] [] h
  | _ => False
set_option maxHeartbeats 4000000 in
theorem tX2_reached_0 {x : CX} {E : Nat → Value} {Q : Rs → HS → Prop} (EN : EX x E) (G : Gd x cX2_reached "ChantRules$Machine" yX2_reached 1 (Option.some (Jvm.ClassFile.FieldType.array Jvm.ClassFile.FieldType.boolean)) Q) (hF : x.1.2.2.2.frames = 5 ∧ x.1.2.2.2.locals = 133) (hC : x.2.2.2.2.2 = (fun _ => false)) (hxt : (∀ z ∈ x.2.2.1.2.1.exceptionTable.toList, False)) : Snd x 0 (bX2_reached_0 E Q) := by
  unfold bX2_reached_0
  refine s_aload_n rfl G.b dX2_reached_0 ?_
  refine s_iconst (by decide) G.b dX2_reached_1 ?_
  refine s_iconst (by decide) G.b dX2_reached_2 ?_
  refine s_callV G (mX2_from EN) q860 q861 (sel_cons (r := (RX3, TX3, 3)) (by decide) rfl q864 (sel_cons (r := (RX11, TX11, 3)) (by decide) rfl q863 (sel_nil))) q78 q865 nmk_128 (rm_of hF (Nat.le_of_ble_eq_true rfl) (Nat.le_of_ble_eq_true rfl)) dX2_reached_3 ?_ (sx_out G (fun z hz => (hxt z hz).elim))
  exact s_areturn (Or.inr ⟨_, rfl⟩) G dX2_reached_6
set_option maxHeartbeats 4000000 in
theorem mX2_reached {l : Launch} {D : DE} {s0 : State} {E : Nat → Value} (EN : EV l D s0 E) : rMet l D s0 yX2_reached (ws_ yX2_reached cX2_reached 1 (Option.some (Jvm.ClassFile.FieldType.array Jvm.ClassFile.FieldType.boolean))) 5 133 (wX2_reached E) := by
  refine body_met (fun _ => false) EN.kn (fun w h => h) (by decide +kernel) rfl (fun av h Q hw => ?_) ?_
  · unfold wX2_reached at hw
    split at hw
    · exact Nat.le_of_ble_eq_true rfl
    · exact hw.elim
  · intro p e s m below meth c av h Q hxt G hw
    unfold wX2_reached at hw
    split at hw
    · exact tX2_reached_0 EN G ⟨rfl, rfl⟩ rfl hxt _ _ _ hw
    · exact hw.elim
/-! ChantRules$Machine.useful()[Z (X2_useful_2) -/
theorem nmk_129 : nm_ok yX2_reached 0 := ⟨by decide +kernel, by decide +kernel, by decide +kernel⟩
def bX2_useful_2_166 (E : Nat → Value) (Q : Rs → HS → Prop) (X9 X42 X56 X140 : Ct) : Ct :=
  o_aload 1 <|
  o_areturn Q
def bX2_useful_2_146 (E : Nat → Value) (Q : Rs → HS → Prop) (X9 X42 X56 X140 : Ct) : Ct :=
  o_icmpge (bX2_useful_2_166 E Q X9 X42 X56 X140) <|
  o_aload 1 <|
  o_iload 4 <|
  o_dup2 <|
  o_ald [101, 102] <|
  o_aload 3 <|
  o_iload 4 <|
  o_ald [101, 102] <|
  o_iand <|
  o_ast [(101, .boolean), (102, .byte)] <|
  o_iinc 4 1 <|
  X140
def bX2_useful_2_140 (E : Nat → Value) (Q : Rs → HS → Prop) (X9 X42 X56 X140 : Ct) : Ct :=
  o_iload 4 <|
  o_aload 0 <|
  o_vsel 1 [2] (o_callV [2] 1 (wX3_states E) (x_out Q) (bX2_useful_2_146 E Q X9 X42 X56 X140)) (o_callV [4] 1 (wX11_states E) (x_out Q) (bX2_useful_2_146 E Q X9 X42 X56 X140))
def bX2_useful_2_132 (E : Nat → Value) (Q : Rs → HS → Prop) (X9 X42 X56 X140 : Ct) : Ct :=
  o_aload 0 <|
  o_callV [2, 4] 1 (wX2_reached E) (x_out Q) <|
  o_astore 3 <|
  o_push (.int 0) <|
  o_istore 4 <|
  X140
def bX2_useful_2_129 (E : Nat → Value) (Q : Rs → HS → Prop) (X9 X42 X56 X140 : Ct) : Ct :=
  X42
def bX2_useful_2_115 (E : Nat → Value) (Q : Rs → HS → Prop) (X9 X42 X56 X140 : Ct) : Ct :=
  o_dup2 <|
  o_ald [101, 102] <|
  o_iload 5 <|
  o_ior <|
  o_ast [(101, .boolean), (102, .byte)] <|
  o_iload 2 <|
  o_iload 5 <|
  o_ior <|
  o_istore 2 <|
  X56
def bX2_useful_2_105 (E : Nat → Value) (Q : Rs → HS → Prop) (X9 X42 X56 X140 : Ct) : Ct :=
  o_istore 5 <|
  o_aload 1 <|
  o_aload 4 <|
  o_vsel 1 [10] (o_callV [10] 1 (wX7_from E) (x_out Q) (bX2_useful_2_115 E Q X9 X42 X56 X140)) (o_callV [11] 1 (wX8_from E) (x_out Q) (bX2_useful_2_115 E Q X9 X42 X56 X140))
def bX2_useful_2_104 (E : Nat → Value) (Q : Rs → HS → Prop) (X9 X42 X56 X140 : Ct) : Ct :=
  o_push (.int 0) <|
  (bX2_useful_2_105 E Q X9 X42 X56 X140)
def bX2_useful_2_96 (E : Nat → Value) (Q : Rs → HS → Prop) (X9 X42 X56 X140 : Ct) : Ct :=
  o_ald [101, 102] <|
  o_ifne (bX2_useful_2_104 E Q X9 X42 X56 X140) <|
  o_push (.int 1) <|
  (bX2_useful_2_105 E Q X9 X42 X56 X140)
def bX2_useful_2_84 (E : Nat → Value) (Q : Rs → HS → Prop) (X9 X42 X56 X140 : Ct) : Ct :=
  o_ald [101, 102] <|
  o_ifeq (bX2_useful_2_104 E Q X9 X42 X56 X140) <|
  o_aload 1 <|
  o_aload 4 <|
  o_vsel 1 [10] (o_callV [10] 1 (wX7_from E) (x_out Q) (bX2_useful_2_96 E Q X9 X42 X56 X140)) (o_callV [11] 1 (wX8_from E) (x_out Q) (bX2_useful_2_96 E Q X9 X42 X56 X140))
def bX2_useful_2_56 (E : Nat → Value) (Q : Rs → HS → Prop) (X9 X42 X56 X140 : Ct) : Ct :=
  o_aload 3 <|
  o_callV [20] 1 (wJ9_hasNext E) (x_out Q) <|
  o_ifeq (bX2_useful_2_129 E Q X9 X42 X56 X140) <|
  o_aload 3 <|
  o_callV [20] 1 (wJ9_next E) (x_out Q) <|
  o_cast [10, 11] <|
  o_astore 4 <|
  o_aload 1 <|
  o_aload 4 <|
  o_vsel 1 [10] (o_callV [10] 1 (wX7_to E) (x_out Q) (bX2_useful_2_84 E Q X9 X42 X56 X140)) (o_callV [11] 1 (wX8_to E) (x_out Q) (bX2_useful_2_84 E Q X9 X42 X56 X140))
def bX2_useful_2_52 (E : Nat → Value) (Q : Rs → HS → Prop) (X9 X42 X56 X140 : Ct) : Ct :=
  o_callV [15] 1 (wJ2_iterator E) (x_out Q) <|
  o_astore 3 <|
  X56
def bX2_useful_2_42 (E : Nat → Value) (Q : Rs → HS → Prop) (X9 X42 X56 X140 : Ct) : Ct :=
  o_iload 2 <|
  o_ifeq (bX2_useful_2_132 E Q X9 X42 X56 X140) <|
  o_push (.int 0) <|
  o_istore 2 <|
  o_aload 0 <|
  o_vsel 1 [2] (o_callV [2] 1 (wX3_arcs E) (x_out Q) (bX2_useful_2_52 E Q X9 X42 X56 X140)) (o_callV [4] 1 (wX11_arcs E) (x_out Q) (bX2_useful_2_52 E Q X9 X42 X56 X140))
def bX2_useful_2_40 (E : Nat → Value) (Q : Rs → HS → Prop) (X9 X42 X56 X140 : Ct) : Ct :=
  o_push (.int 1) <|
  o_istore 2 <|
  X42
def bX2_useful_2_33 (E : Nat → Value) (Q : Rs → HS → Prop) (X9 X42 X56 X140 : Ct) : Ct :=
  o_ast [(101, .boolean), (102, .byte)] <|
  o_iinc 2 1 <|
  X9
def bX2_useful_2_32 (E : Nat → Value) (Q : Rs → HS → Prop) (X9 X42 X56 X140 : Ct) : Ct :=
  o_push (.int 0) <|
  (bX2_useful_2_33 E Q X9 X42 X56 X140)
def bX2_useful_2_24 (E : Nat → Value) (Q : Rs → HS → Prop) (X9 X42 X56 X140 : Ct) : Ct :=
  o_push (.int (-1)) <|
  o_icmpeq (bX2_useful_2_32 E Q X9 X42 X56 X140) <|
  o_push (.int 1) <|
  (bX2_useful_2_33 E Q X9 X42 X56 X140)
def bX2_useful_2_14 (E : Nat → Value) (Q : Rs → HS → Prop) (X9 X42 X56 X140 : Ct) : Ct :=
  o_icmpge (bX2_useful_2_40 E Q X9 X42 X56 X140) <|
  o_aload 1 <|
  o_iload 2 <|
  o_aload 0 <|
  o_iload 2 <|
  o_vsel 2 [2] (o_callV [2] 2 (wX3_end E) (x_out Q) (bX2_useful_2_24 E Q X9 X42 X56 X140)) (o_callV [4] 2 (wX11_end E) (x_out Q) (bX2_useful_2_24 E Q X9 X42 X56 X140))
def bX2_useful_2_9 (E : Nat → Value) (Q : Rs → HS → Prop) (X9 X42 X56 X140 : Ct) : Ct :=
  o_iload 2 <|
  o_aload 0 <|
  o_vsel 1 [2] (o_callV [2] 1 (wX3_states E) (x_out Q) (bX2_useful_2_14 E Q X9 X42 X56 X140)) (o_callV [4] 1 (wX11_states E) (x_out Q) (bX2_useful_2_14 E Q X9 X42 X56 X140))
def bX2_useful_2_4 (E : Nat → Value) (Q : Rs → HS → Prop) (X9 X42 X56 X140 : Ct) : Ct :=
  o_newa 101 (.int 0) <|
  o_astore 1 <|
  o_push (.int 0) <|
  o_istore 2 <|
  X9
def bX2_useful_2_0 (E : Nat → Value) (Q : Rs → HS → Prop) (X9 X42 X56 X140 : Ct) : Ct :=
  o_aload 0 <|
  o_vsel 1 [2] (o_callV [2] 1 (wX3_states E) (x_out Q) (bX2_useful_2_4 E Q X9 X42 X56 X140)) (o_callV [4] 1 (wX11_states E) (x_out Q) (bX2_useful_2_4 E Q X9 X42 X56 X140))
def wX2_useful_2 (E : Nat → Value) : Wp := fun av h Q => match av with
  | [a0] => ∀ X9 X42 X56 X140 : Ct, (∀ ls st h, bX2_useful_2_9 E Q X9 X42 X56 X140 ls st h → X9 ls st h) → (∀ ls st h, bX2_useful_2_42 E Q X9 X42 X56 X140 ls st h → X42 ls st h) → (∀ ls st h, bX2_useful_2_56 E Q X9 X42 X56 X140 ls st h → X56 ls st h) → (∀ ls st h, bX2_useful_2_140 E Q X9 X42 X56 X140 ls st h → X140 ls st h) → bX2_useful_2_0 E Q X9 X42 X56 X140 [a0, jk, jk, jk, jk, jk] [] h
  | _ => False
set_option maxHeartbeats 4000000 in
theorem tX2_useful_2_166 {x : CX} {E : Nat → Value} {Q : Rs → HS → Prop} {X9 X42 X56 X140 : Ct} (EN : EX x E) (G : Gd x cX2_useful_2 "ChantRules$Machine" yX2_useful_2 6 (Option.some (Jvm.ClassFile.FieldType.array Jvm.ClassFile.FieldType.boolean)) Q) (hF : x.1.2.2.2.frames = 6 ∧ x.1.2.2.2.locals = 153) (hC : x.2.2.2.2.2 = (fun _ => false)) (hxt : (∀ z ∈ x.2.2.1.2.1.exceptionTable.toList, False)) (h9 : Snd x 9 X9) (h42 : Snd x 42 X42) (h56 : Snd x 56 X56) (h140 : Snd x 140 X140) : Snd x 166 (bX2_useful_2_166 E Q X9 X42 X56 X140) := by
  unfold bX2_useful_2_166
  refine s_aload_n rfl G.b dX2_useful_2_166 ?_
  exact s_areturn (Or.inr ⟨_, rfl⟩) G dX2_useful_2_167
set_option maxHeartbeats 4000000 in
theorem tX2_useful_2_146 {x : CX} {E : Nat → Value} {Q : Rs → HS → Prop} {X9 X42 X56 X140 : Ct} (EN : EX x E) (G : Gd x cX2_useful_2 "ChantRules$Machine" yX2_useful_2 6 (Option.some (Jvm.ClassFile.FieldType.array Jvm.ClassFile.FieldType.boolean)) Q) (hF : x.1.2.2.2.frames = 6 ∧ x.1.2.2.2.locals = 153) (hC : x.2.2.2.2.2 = (fun _ => false)) (hxt : (∀ z ∈ x.2.2.1.2.1.exceptionTable.toList, False)) (h9 : Snd x 9 X9) (h42 : Snd x 42 X42) (h56 : Snd x 56 X56) (h140 : Snd x 140 X140) : Snd x 146 (bX2_useful_2_146 E Q X9 X42 X56 X140) := by
  unfold bX2_useful_2_146
  refine s_icmpge (tgt := 166) G.b dX2_useful_2_146 (by decide) (tX2_useful_2_166 EN G hF hC hxt h9 h42 h56 h140) ?_
  refine s_aload_n rfl G.b dX2_useful_2_149 ?_
  refine s_iload G.b dX2_useful_2_150 ?_
  refine s_dup2 G.b dX2_useful_2_152 ?_
  refine s_bald G.b G.kn dX2_useful_2_153 ?_
  refine s_aload_n rfl G.b dX2_useful_2_154 ?_
  refine s_iload G.b dX2_useful_2_155 ?_
  refine s_bald G.b G.kn dX2_useful_2_157 ?_
  refine s_iand G.b dX2_useful_2_158 ?_
  refine s_bast G.b G.kn dX2_useful_2_159 ?_
  refine s_iinc (by decide) G.b (by rw [G.nl]; decide) (fun _ _ => by rw [hC]) dX2_useful_2_160 ?_
  exact s_goto (tgt := 140) G.b dX2_useful_2_163 (by decide) h140
set_option maxHeartbeats 4000000 in
theorem tX2_useful_2_140 {x : CX} {E : Nat → Value} {Q : Rs → HS → Prop} {X9 X42 X56 X140 : Ct} (EN : EX x E) (G : Gd x cX2_useful_2 "ChantRules$Machine" yX2_useful_2 6 (Option.some (Jvm.ClassFile.FieldType.array Jvm.ClassFile.FieldType.boolean)) Q) (hF : x.1.2.2.2.frames = 6 ∧ x.1.2.2.2.locals = 153) (hC : x.2.2.2.2.2 = (fun _ => false)) (hxt : (∀ z ∈ x.2.2.1.2.1.exceptionTable.toList, False)) (h9 : Snd x 9 X9) (h42 : Snd x 42 X42) (h56 : Snd x 56 X56) (h140 : Snd x 140 X140) : Snd x 140 (bX2_useful_2_140 E Q X9 X42 X56 X140) := by
  unfold bX2_useful_2_140
  refine s_iload G.b dX2_useful_2_140 ?_
  refine s_aload_n rfl G.b dX2_useful_2_142 ?_
  exact (s_vsel (s_callVU (w := ⟨"ChantRules$Machine", "states", "()I"⟩) (owner := "ChantRules$Machine") G (mX3_states EN) q866 q868 (va_Decl.abs (va_Nw.warmD G.warm (EN.nw q867 rfl))) (by decide +kernel) q873 (sel_cons (r := (RX3, TX3, 3)) (by decide) rfl q872 (sel_nil)) q79 q874 nmk_115 (rm_of hF (Nat.le_of_ble_eq_true rfl) (Nat.le_of_ble_eq_true rfl)) dX2_useful_2_143 (tX2_useful_2_146 EN G hF hC hxt h9 h42 h56 h140) (sx_out G (fun z hz => (hxt z hz).elim)) ) (s_callVU (w := ⟨"ChantRules$Machine", "states", "()I"⟩) (owner := "ChantRules$Machine") G (mX11_states EN) q866 q868 (va_Decl.abs (va_Nw.warmD G.warm (EN.nw q867 rfl))) (by decide +kernel) q870 (sel_cons (r := (RX11, TX11, 3)) (by decide) rfl q869 (sel_nil)) q106 q871 nmk_115 (rm_of hF (Nat.le_of_ble_eq_true rfl) (Nat.le_of_ble_eq_true rfl)) dX2_useful_2_143 (tX2_useful_2_146 EN G hF hC hxt h9 h42 h56 h140) (sx_out G (fun z hz => (hxt z hz).elim)) ))
set_option maxHeartbeats 4000000 in
theorem tX2_useful_2_132 {x : CX} {E : Nat → Value} {Q : Rs → HS → Prop} {X9 X42 X56 X140 : Ct} (EN : EX x E) (G : Gd x cX2_useful_2 "ChantRules$Machine" yX2_useful_2 6 (Option.some (Jvm.ClassFile.FieldType.array Jvm.ClassFile.FieldType.boolean)) Q) (hF : x.1.2.2.2.frames = 6 ∧ x.1.2.2.2.locals = 153) (hC : x.2.2.2.2.2 = (fun _ => false)) (hxt : (∀ z ∈ x.2.2.1.2.1.exceptionTable.toList, False)) (h9 : Snd x 9 X9) (h42 : Snd x 42 X42) (h56 : Snd x 56 X56) (h140 : Snd x 140 X140) : Snd x 132 (bX2_useful_2_132 E Q X9 X42 X56 X140) := by
  unfold bX2_useful_2_132
  refine s_aload_n rfl G.b dX2_useful_2_132 ?_
  refine s_callV G (mX2_reached EN) q918 q858 (sel_cons (r := (RX3, TX3, 3)) (by decide) rfl q2341 (sel_cons (r := (RX11, TX11, 3)) (by decide) rfl q2340 (sel_nil))) q78 q859 nmk_129 (rm_of hF (Nat.le_of_ble_eq_true rfl) (Nat.le_of_ble_eq_true rfl)) dX2_useful_2_133 ?_ (sx_out G (fun z hz => (hxt z hz).elim))
  refine s_astore_n rfl G.b (by rw [G.nl]; decide) (fun _ _ => by rw [hC]) dX2_useful_2_136 ?_
  refine s_iconst (by decide) G.b dX2_useful_2_137 ?_
  refine s_istore G.b (by rw [G.nl]; decide) (fun _ _ => by rw [hC]) dX2_useful_2_138 ?_
  exact h140
set_option maxHeartbeats 4000000 in
theorem tX2_useful_2_129 {x : CX} {E : Nat → Value} {Q : Rs → HS → Prop} {X9 X42 X56 X140 : Ct} (EN : EX x E) (G : Gd x cX2_useful_2 "ChantRules$Machine" yX2_useful_2 6 (Option.some (Jvm.ClassFile.FieldType.array Jvm.ClassFile.FieldType.boolean)) Q) (hF : x.1.2.2.2.frames = 6 ∧ x.1.2.2.2.locals = 153) (hC : x.2.2.2.2.2 = (fun _ => false)) (hxt : (∀ z ∈ x.2.2.1.2.1.exceptionTable.toList, False)) (h9 : Snd x 9 X9) (h42 : Snd x 42 X42) (h56 : Snd x 56 X56) (h140 : Snd x 140 X140) : Snd x 129 (bX2_useful_2_129 E Q X9 X42 X56 X140) := by
  unfold bX2_useful_2_129
  exact s_goto (tgt := 42) G.b dX2_useful_2_129 (by decide) h42
set_option maxHeartbeats 4000000 in
theorem tX2_useful_2_115 {x : CX} {E : Nat → Value} {Q : Rs → HS → Prop} {X9 X42 X56 X140 : Ct} (EN : EX x E) (G : Gd x cX2_useful_2 "ChantRules$Machine" yX2_useful_2 6 (Option.some (Jvm.ClassFile.FieldType.array Jvm.ClassFile.FieldType.boolean)) Q) (hF : x.1.2.2.2.frames = 6 ∧ x.1.2.2.2.locals = 153) (hC : x.2.2.2.2.2 = (fun _ => false)) (hxt : (∀ z ∈ x.2.2.1.2.1.exceptionTable.toList, False)) (h9 : Snd x 9 X9) (h42 : Snd x 42 X42) (h56 : Snd x 56 X56) (h140 : Snd x 140 X140) : Snd x 115 (bX2_useful_2_115 E Q X9 X42 X56 X140) := by
  unfold bX2_useful_2_115
  refine s_dup2 G.b dX2_useful_2_115 ?_
  refine s_bald G.b G.kn dX2_useful_2_116 ?_
  refine s_iload G.b dX2_useful_2_117 ?_
  refine s_ior G.b dX2_useful_2_119 ?_
  refine s_bast G.b G.kn dX2_useful_2_120 ?_
  refine s_iload_n rfl G.b dX2_useful_2_121 ?_
  refine s_iload G.b dX2_useful_2_122 ?_
  refine s_ior G.b dX2_useful_2_124 ?_
  refine s_istore_n rfl G.b (by rw [G.nl]; decide) (fun _ _ => by rw [hC]) dX2_useful_2_125 ?_
  exact s_goto (tgt := 56) G.b dX2_useful_2_126 (by decide) h56
set_option maxHeartbeats 4000000 in
theorem tX2_useful_2_105 {x : CX} {E : Nat → Value} {Q : Rs → HS → Prop} {X9 X42 X56 X140 : Ct} (EN : EX x E) (G : Gd x cX2_useful_2 "ChantRules$Machine" yX2_useful_2 6 (Option.some (Jvm.ClassFile.FieldType.array Jvm.ClassFile.FieldType.boolean)) Q) (hF : x.1.2.2.2.frames = 6 ∧ x.1.2.2.2.locals = 153) (hC : x.2.2.2.2.2 = (fun _ => false)) (hxt : (∀ z ∈ x.2.2.1.2.1.exceptionTable.toList, False)) (h9 : Snd x 9 X9) (h42 : Snd x 42 X42) (h56 : Snd x 56 X56) (h140 : Snd x 140 X140) : Snd x 105 (bX2_useful_2_105 E Q X9 X42 X56 X140) := by
  unfold bX2_useful_2_105
  refine s_istore G.b (by rw [G.nl]; decide) (fun _ _ => by rw [hC]) dX2_useful_2_105 ?_
  refine s_aload_n rfl G.b dX2_useful_2_107 ?_
  refine s_aload G.b dX2_useful_2_108 ?_
  exact (s_vsel (s_callF (r0 := (RX7, TX7, 4)) (w := ⟨"ChantRules$Arc", "from", "()I"⟩) (by decide) rfl G (mX7_from EN) q891 (va_Fw.moved (by decide +kernel) G.warm.alike ⟨(EN.nw q712 rfl), (EN.nw q711 rfl), (EN.nw q716 rfl), (EN.nw q714 rfl), (EN.nw q287 rfl)⟩) q713 q715 q99 q717 nmk_70 (rm_of hF (Nat.le_of_ble_eq_true rfl) (Nat.le_of_ble_eq_true rfl)) dX2_useful_2_110 (tX2_useful_2_115 EN G hF hC hxt h9 h42 h56 h140) (sx_out G (fun z hz => (hxt z hz).elim)) ) (s_callF (r0 := (RX8, TX8, 5)) (w := ⟨"ChantRules$Arc", "from", "()I"⟩) (by decide) rfl G (mX8_from EN) q891 (va_Fw.moved (by decide +kernel) G.warm.alike ⟨(EN.nw q712 rfl), (EN.nw q711 rfl), (EN.nw q721 rfl), (EN.nw q719 rfl), (EN.nw q293 rfl)⟩) q718 q720 q100 q722 nmk_70 (rm_of hF (Nat.le_of_ble_eq_true rfl) (Nat.le_of_ble_eq_true rfl)) dX2_useful_2_110 (tX2_useful_2_115 EN G hF hC hxt h9 h42 h56 h140) (sx_out G (fun z hz => (hxt z hz).elim)) ))
set_option maxHeartbeats 4000000 in
theorem tX2_useful_2_104 {x : CX} {E : Nat → Value} {Q : Rs → HS → Prop} {X9 X42 X56 X140 : Ct} (EN : EX x E) (G : Gd x cX2_useful_2 "ChantRules$Machine" yX2_useful_2 6 (Option.some (Jvm.ClassFile.FieldType.array Jvm.ClassFile.FieldType.boolean)) Q) (hF : x.1.2.2.2.frames = 6 ∧ x.1.2.2.2.locals = 153) (hC : x.2.2.2.2.2 = (fun _ => false)) (hxt : (∀ z ∈ x.2.2.1.2.1.exceptionTable.toList, False)) (h9 : Snd x 9 X9) (h42 : Snd x 42 X42) (h56 : Snd x 56 X56) (h140 : Snd x 140 X140) : Snd x 104 (bX2_useful_2_104 E Q X9 X42 X56 X140) := by
  unfold bX2_useful_2_104
  refine s_iconst (by decide) G.b dX2_useful_2_104 ?_
  exact (tX2_useful_2_105 EN G hF hC hxt h9 h42 h56 h140)
set_option maxHeartbeats 4000000 in
theorem tX2_useful_2_96 {x : CX} {E : Nat → Value} {Q : Rs → HS → Prop} {X9 X42 X56 X140 : Ct} (EN : EX x E) (G : Gd x cX2_useful_2 "ChantRules$Machine" yX2_useful_2 6 (Option.some (Jvm.ClassFile.FieldType.array Jvm.ClassFile.FieldType.boolean)) Q) (hF : x.1.2.2.2.frames = 6 ∧ x.1.2.2.2.locals = 153) (hC : x.2.2.2.2.2 = (fun _ => false)) (hxt : (∀ z ∈ x.2.2.1.2.1.exceptionTable.toList, False)) (h9 : Snd x 9 X9) (h42 : Snd x 42 X42) (h56 : Snd x 56 X56) (h140 : Snd x 140 X140) : Snd x 96 (bX2_useful_2_96 E Q X9 X42 X56 X140) := by
  unfold bX2_useful_2_96
  refine s_bald G.b G.kn dX2_useful_2_96 ?_
  refine s_ifne (tgt := 104) G.b dX2_useful_2_97 (by decide) (tX2_useful_2_104 EN G hF hC hxt h9 h42 h56 h140) ?_
  refine s_iconst (by decide) G.b dX2_useful_2_100 ?_
  exact s_goto (tgt := 105) G.b dX2_useful_2_101 (by decide) (tX2_useful_2_105 EN G hF hC hxt h9 h42 h56 h140)
set_option maxHeartbeats 4000000 in
theorem tX2_useful_2_84 {x : CX} {E : Nat → Value} {Q : Rs → HS → Prop} {X9 X42 X56 X140 : Ct} (EN : EX x E) (G : Gd x cX2_useful_2 "ChantRules$Machine" yX2_useful_2 6 (Option.some (Jvm.ClassFile.FieldType.array Jvm.ClassFile.FieldType.boolean)) Q) (hF : x.1.2.2.2.frames = 6 ∧ x.1.2.2.2.locals = 153) (hC : x.2.2.2.2.2 = (fun _ => false)) (hxt : (∀ z ∈ x.2.2.1.2.1.exceptionTable.toList, False)) (h9 : Snd x 9 X9) (h42 : Snd x 42 X42) (h56 : Snd x 56 X56) (h140 : Snd x 140 X140) : Snd x 84 (bX2_useful_2_84 E Q X9 X42 X56 X140) := by
  unfold bX2_useful_2_84
  refine s_bald G.b G.kn dX2_useful_2_84 ?_
  refine s_ifeq (tgt := 104) G.b dX2_useful_2_85 (by decide) (tX2_useful_2_104 EN G hF hC hxt h9 h42 h56 h140) ?_
  refine s_aload_n rfl G.b dX2_useful_2_88 ?_
  refine s_aload G.b dX2_useful_2_89 ?_
  exact (s_vsel (s_callF (r0 := (RX7, TX7, 4)) (w := ⟨"ChantRules$Arc", "from", "()I"⟩) (by decide) rfl G (mX7_from EN) q891 (va_Fw.moved (by decide +kernel) G.warm.alike ⟨(EN.nw q712 rfl), (EN.nw q711 rfl), (EN.nw q716 rfl), (EN.nw q714 rfl), (EN.nw q287 rfl)⟩) q713 q715 q99 q717 nmk_70 (rm_of hF (Nat.le_of_ble_eq_true rfl) (Nat.le_of_ble_eq_true rfl)) dX2_useful_2_91 (tX2_useful_2_96 EN G hF hC hxt h9 h42 h56 h140) (sx_out G (fun z hz => (hxt z hz).elim)) ) (s_callF (r0 := (RX8, TX8, 5)) (w := ⟨"ChantRules$Arc", "from", "()I"⟩) (by decide) rfl G (mX8_from EN) q891 (va_Fw.moved (by decide +kernel) G.warm.alike ⟨(EN.nw q712 rfl), (EN.nw q711 rfl), (EN.nw q721 rfl), (EN.nw q719 rfl), (EN.nw q293 rfl)⟩) q718 q720 q100 q722 nmk_70 (rm_of hF (Nat.le_of_ble_eq_true rfl) (Nat.le_of_ble_eq_true rfl)) dX2_useful_2_91 (tX2_useful_2_96 EN G hF hC hxt h9 h42 h56 h140) (sx_out G (fun z hz => (hxt z hz).elim)) ))
set_option maxHeartbeats 4000000 in
theorem tX2_useful_2_56 {x : CX} {E : Nat → Value} {Q : Rs → HS → Prop} {X9 X42 X56 X140 : Ct} (EN : EX x E) (G : Gd x cX2_useful_2 "ChantRules$Machine" yX2_useful_2 6 (Option.some (Jvm.ClassFile.FieldType.array Jvm.ClassFile.FieldType.boolean)) Q) (hF : x.1.2.2.2.frames = 6 ∧ x.1.2.2.2.locals = 153) (hC : x.2.2.2.2.2 = (fun _ => false)) (hxt : (∀ z ∈ x.2.2.1.2.1.exceptionTable.toList, False)) (h9 : Snd x 9 X9) (h42 : Snd x 42 X42) (h56 : Snd x 56 X56) (h140 : Snd x 140 X140) : Snd x 56 (bX2_useful_2_56 E Q X9 X42 X56 X140) := by
  unfold bX2_useful_2_56
  refine s_aload_n rfl G.b dX2_useful_2_56 ?_
  refine s_callF (r0 := (RJ9, TJ9, 4)) (w := ⟨"java/util/Iterator", "hasNext", "()Z"⟩) (by decide) rfl G (mJ9_hasNext EN) q886 (va_Fw.moved (by decide +kernel) G.warm.alike ⟨(EN.nw q380 rfl), (EN.nw q379 rfl), (EN.nw q385 rfl), (EN.nw q383 rfl), (EN.nw q381 rfl)⟩) q382 q384 q91 q386 nmk_15 (rm_of hF (Nat.le_of_ble_eq_true rfl) (Nat.le_of_ble_eq_true rfl)) dX2_useful_2_57 ?_ (sx_out G (fun z hz => (hxt z hz).elim))
  refine s_ifeq (tgt := 129) G.b dX2_useful_2_62 (by decide) (tX2_useful_2_129 EN G hF hC hxt h9 h42 h56 h140) ?_
  refine s_aload_n rfl G.b dX2_useful_2_65 ?_
  refine s_callF (r0 := (RJ9, TJ9, 4)) (w := ⟨"java/util/Iterator", "next", "()Ljava/lang/Object;"⟩) (by decide) rfl G (mJ9_next EN) q888 (va_Fw.moved (by decide +kernel) G.warm.alike ⟨(EN.nw q390 rfl), (EN.nw q389 rfl), (EN.nw q394 rfl), (EN.nw q392 rfl), (EN.nw q381 rfl)⟩) q391 q393 q91 q395 nmk_16 (rm_of hF (Nat.le_of_ble_eq_true rfl) (Nat.le_of_ble_eq_true rfl)) dX2_useful_2_66 ?_ (sx_out G (fun z hz => (hxt z hz).elim))
  refine s_cast G.b G.ow G.kn G.hts q889 ct_1 dX2_useful_2_71 ?_
  refine s_astore G.b (by rw [G.nl]; decide) (fun _ _ => by rw [hC]) dX2_useful_2_74 ?_
  refine s_aload_n rfl G.b dX2_useful_2_76 ?_
  refine s_aload G.b dX2_useful_2_77 ?_
  exact (s_vsel (s_callF (r0 := (RX7, TX7, 4)) (w := ⟨"ChantRules$Arc", "to", "()I"⟩) (by decide) rfl G (mX7_to EN) q893 (va_Fw.moved (by decide +kernel) G.warm.alike ⟨(EN.nw q726 rfl), (EN.nw q725 rfl), (EN.nw q730 rfl), (EN.nw q728 rfl), (EN.nw q287 rfl)⟩) q727 q729 q99 q731 nmk_69 (rm_of hF (Nat.le_of_ble_eq_true rfl) (Nat.le_of_ble_eq_true rfl)) dX2_useful_2_79 (tX2_useful_2_84 EN G hF hC hxt h9 h42 h56 h140) (sx_out G (fun z hz => (hxt z hz).elim)) ) (s_callF (r0 := (RX8, TX8, 5)) (w := ⟨"ChantRules$Arc", "to", "()I"⟩) (by decide) rfl G (mX8_to EN) q893 (va_Fw.moved (by decide +kernel) G.warm.alike ⟨(EN.nw q726 rfl), (EN.nw q725 rfl), (EN.nw q735 rfl), (EN.nw q733 rfl), (EN.nw q293 rfl)⟩) q732 q734 q100 q736 nmk_69 (rm_of hF (Nat.le_of_ble_eq_true rfl) (Nat.le_of_ble_eq_true rfl)) dX2_useful_2_79 (tX2_useful_2_84 EN G hF hC hxt h9 h42 h56 h140) (sx_out G (fun z hz => (hxt z hz).elim)) ))
set_option maxHeartbeats 4000000 in
theorem tX2_useful_2_52 {x : CX} {E : Nat → Value} {Q : Rs → HS → Prop} {X9 X42 X56 X140 : Ct} (EN : EX x E) (G : Gd x cX2_useful_2 "ChantRules$Machine" yX2_useful_2 6 (Option.some (Jvm.ClassFile.FieldType.array Jvm.ClassFile.FieldType.boolean)) Q) (hF : x.1.2.2.2.frames = 6 ∧ x.1.2.2.2.locals = 153) (hC : x.2.2.2.2.2 = (fun _ => false)) (hxt : (∀ z ∈ x.2.2.1.2.1.exceptionTable.toList, False)) (h9 : Snd x 9 X9) (h42 : Snd x 42 X42) (h56 : Snd x 56 X56) (h140 : Snd x 140 X140) : Snd x 52 (bX2_useful_2_52 E Q X9 X42 X56 X140) := by
  unfold bX2_useful_2_52
  refine s_callV G (mJ2_iterator EN) q884 q355 (sel_cons (r := (RJ2, TJ2, 3)) (by decide) rfl q356 (sel_nil)) q82 q357 nmk_18 (rm_of hF (Nat.le_of_ble_eq_true rfl) (Nat.le_of_ble_eq_true rfl)) dX2_useful_2_52 ?_ (sx_out G (fun z hz => (hxt z hz).elim))
  refine s_astore_n rfl G.b (by rw [G.nl]; decide) (fun _ _ => by rw [hC]) dX2_useful_2_55 ?_
  exact h56
set_option maxHeartbeats 4000000 in
theorem tX2_useful_2_42 {x : CX} {E : Nat → Value} {Q : Rs → HS → Prop} {X9 X42 X56 X140 : Ct} (EN : EX x E) (G : Gd x cX2_useful_2 "ChantRules$Machine" yX2_useful_2 6 (Option.some (Jvm.ClassFile.FieldType.array Jvm.ClassFile.FieldType.boolean)) Q) (hF : x.1.2.2.2.frames = 6 ∧ x.1.2.2.2.locals = 153) (hC : x.2.2.2.2.2 = (fun _ => false)) (hxt : (∀ z ∈ x.2.2.1.2.1.exceptionTable.toList, False)) (h9 : Snd x 9 X9) (h42 : Snd x 42 X42) (h56 : Snd x 56 X56) (h140 : Snd x 140 X140) : Snd x 42 (bX2_useful_2_42 E Q X9 X42 X56 X140) := by
  unfold bX2_useful_2_42
  refine s_iload_n rfl G.b dX2_useful_2_42 ?_
  refine s_ifeq (tgt := 132) G.b dX2_useful_2_43 (by decide) (tX2_useful_2_132 EN G hF hC hxt h9 h42 h56 h140) ?_
  refine s_iconst (by decide) G.b dX2_useful_2_46 ?_
  refine s_istore_n rfl G.b (by rw [G.nl]; decide) (fun _ _ => by rw [hC]) dX2_useful_2_47 ?_
  refine s_aload_n rfl G.b dX2_useful_2_48 ?_
  exact (s_vsel (s_callVU (w := ⟨"ChantRules$Machine", "arcs", "()Ljava/util/ArrayList;"⟩) (owner := "ChantRules$Machine") G (mX3_arcs EN) q875 q877 (va_Decl.abs (va_Nw.warmD G.warm (EN.nw q876 rfl))) (by decide +kernel) q882 (sel_cons (r := (RX3, TX3, 3)) (by decide) rfl q881 (sel_nil)) q79 q883 nmk_108 (rm_of hF (Nat.le_of_ble_eq_true rfl) (Nat.le_of_ble_eq_true rfl)) dX2_useful_2_49 (tX2_useful_2_52 EN G hF hC hxt h9 h42 h56 h140) (sx_out G (fun z hz => (hxt z hz).elim)) ) (s_callVU (w := ⟨"ChantRules$Machine", "arcs", "()Ljava/util/ArrayList;"⟩) (owner := "ChantRules$Machine") G (mX11_arcs EN) q875 q877 (va_Decl.abs (va_Nw.warmD G.warm (EN.nw q876 rfl))) (by decide +kernel) q879 (sel_cons (r := (RX11, TX11, 3)) (by decide) rfl q878 (sel_nil)) q106 q880 nmk_108 (rm_of hF (Nat.le_of_ble_eq_true rfl) (Nat.le_of_ble_eq_true rfl)) dX2_useful_2_49 (tX2_useful_2_52 EN G hF hC hxt h9 h42 h56 h140) (sx_out G (fun z hz => (hxt z hz).elim)) ))
set_option maxHeartbeats 4000000 in
theorem tX2_useful_2_40 {x : CX} {E : Nat → Value} {Q : Rs → HS → Prop} {X9 X42 X56 X140 : Ct} (EN : EX x E) (G : Gd x cX2_useful_2 "ChantRules$Machine" yX2_useful_2 6 (Option.some (Jvm.ClassFile.FieldType.array Jvm.ClassFile.FieldType.boolean)) Q) (hF : x.1.2.2.2.frames = 6 ∧ x.1.2.2.2.locals = 153) (hC : x.2.2.2.2.2 = (fun _ => false)) (hxt : (∀ z ∈ x.2.2.1.2.1.exceptionTable.toList, False)) (h9 : Snd x 9 X9) (h42 : Snd x 42 X42) (h56 : Snd x 56 X56) (h140 : Snd x 140 X140) : Snd x 40 (bX2_useful_2_40 E Q X9 X42 X56 X140) := by
  unfold bX2_useful_2_40
  refine s_iconst (by decide) G.b dX2_useful_2_40 ?_
  refine s_istore_n rfl G.b (by rw [G.nl]; decide) (fun _ _ => by rw [hC]) dX2_useful_2_41 ?_
  exact h42
set_option maxHeartbeats 4000000 in
theorem tX2_useful_2_33 {x : CX} {E : Nat → Value} {Q : Rs → HS → Prop} {X9 X42 X56 X140 : Ct} (EN : EX x E) (G : Gd x cX2_useful_2 "ChantRules$Machine" yX2_useful_2 6 (Option.some (Jvm.ClassFile.FieldType.array Jvm.ClassFile.FieldType.boolean)) Q) (hF : x.1.2.2.2.frames = 6 ∧ x.1.2.2.2.locals = 153) (hC : x.2.2.2.2.2 = (fun _ => false)) (hxt : (∀ z ∈ x.2.2.1.2.1.exceptionTable.toList, False)) (h9 : Snd x 9 X9) (h42 : Snd x 42 X42) (h56 : Snd x 56 X56) (h140 : Snd x 140 X140) : Snd x 33 (bX2_useful_2_33 E Q X9 X42 X56 X140) := by
  unfold bX2_useful_2_33
  refine s_bast G.b G.kn dX2_useful_2_33 ?_
  refine s_iinc (by decide) G.b (by rw [G.nl]; decide) (fun _ _ => by rw [hC]) dX2_useful_2_34 ?_
  exact s_goto (tgt := 9) G.b dX2_useful_2_37 (by decide) h9
set_option maxHeartbeats 4000000 in
theorem tX2_useful_2_32 {x : CX} {E : Nat → Value} {Q : Rs → HS → Prop} {X9 X42 X56 X140 : Ct} (EN : EX x E) (G : Gd x cX2_useful_2 "ChantRules$Machine" yX2_useful_2 6 (Option.some (Jvm.ClassFile.FieldType.array Jvm.ClassFile.FieldType.boolean)) Q) (hF : x.1.2.2.2.frames = 6 ∧ x.1.2.2.2.locals = 153) (hC : x.2.2.2.2.2 = (fun _ => false)) (hxt : (∀ z ∈ x.2.2.1.2.1.exceptionTable.toList, False)) (h9 : Snd x 9 X9) (h42 : Snd x 42 X42) (h56 : Snd x 56 X56) (h140 : Snd x 140 X140) : Snd x 32 (bX2_useful_2_32 E Q X9 X42 X56 X140) := by
  unfold bX2_useful_2_32
  refine s_iconst (by decide) G.b dX2_useful_2_32 ?_
  exact (tX2_useful_2_33 EN G hF hC hxt h9 h42 h56 h140)
set_option maxHeartbeats 4000000 in
theorem tX2_useful_2_24 {x : CX} {E : Nat → Value} {Q : Rs → HS → Prop} {X9 X42 X56 X140 : Ct} (EN : EX x E) (G : Gd x cX2_useful_2 "ChantRules$Machine" yX2_useful_2 6 (Option.some (Jvm.ClassFile.FieldType.array Jvm.ClassFile.FieldType.boolean)) Q) (hF : x.1.2.2.2.frames = 6 ∧ x.1.2.2.2.locals = 153) (hC : x.2.2.2.2.2 = (fun _ => false)) (hxt : (∀ z ∈ x.2.2.1.2.1.exceptionTable.toList, False)) (h9 : Snd x 9 X9) (h42 : Snd x 42 X42) (h56 : Snd x 56 X56) (h140 : Snd x 140 X140) : Snd x 24 (bX2_useful_2_24 E Q X9 X42 X56 X140) := by
  unfold bX2_useful_2_24
  refine s_iconst (by decide) G.b dX2_useful_2_24 ?_
  refine s_icmpeq (tgt := 32) G.b dX2_useful_2_25 (by decide) (tX2_useful_2_32 EN G hF hC hxt h9 h42 h56 h140) ?_
  refine s_iconst (by decide) G.b dX2_useful_2_28 ?_
  exact s_goto (tgt := 33) G.b dX2_useful_2_29 (by decide) (tX2_useful_2_33 EN G hF hC hxt h9 h42 h56 h140)
set_option maxHeartbeats 4000000 in
theorem tX2_useful_2_14 {x : CX} {E : Nat → Value} {Q : Rs → HS → Prop} {X9 X42 X56 X140 : Ct} (EN : EX x E) (G : Gd x cX2_useful_2 "ChantRules$Machine" yX2_useful_2 6 (Option.some (Jvm.ClassFile.FieldType.array Jvm.ClassFile.FieldType.boolean)) Q) (hF : x.1.2.2.2.frames = 6 ∧ x.1.2.2.2.locals = 153) (hC : x.2.2.2.2.2 = (fun _ => false)) (hxt : (∀ z ∈ x.2.2.1.2.1.exceptionTable.toList, False)) (h9 : Snd x 9 X9) (h42 : Snd x 42 X42) (h56 : Snd x 56 X56) (h140 : Snd x 140 X140) : Snd x 14 (bX2_useful_2_14 E Q X9 X42 X56 X140) := by
  unfold bX2_useful_2_14
  refine s_icmpge (tgt := 40) G.b dX2_useful_2_14 (by decide) (tX2_useful_2_40 EN G hF hC hxt h9 h42 h56 h140) ?_
  refine s_aload_n rfl G.b dX2_useful_2_17 ?_
  refine s_iload_n rfl G.b dX2_useful_2_18 ?_
  refine s_aload_n rfl G.b dX2_useful_2_19 ?_
  refine s_iload_n rfl G.b dX2_useful_2_20 ?_
  exact (s_vsel (s_callVU (w := ⟨"ChantRules$Machine", "end", "(I)I"⟩) (owner := "ChantRules$Machine") G (mX3_end EN) q907 q909 (va_Decl.abs (va_Nw.warmD G.warm (EN.nw q908 rfl))) (by decide +kernel) q914 (sel_cons (r := (RX3, TX3, 3)) (by decide) rfl q917 (sel_nil)) q79 q916 nmk_113 (rm_of hF (Nat.le_of_ble_eq_true rfl) (Nat.le_of_ble_eq_true rfl)) dX2_useful_2_21 (tX2_useful_2_24 EN G hF hC hxt h9 h42 h56 h140) (sx_out G (fun z hz => (hxt z hz).elim)) ) (s_callVU (w := ⟨"ChantRules$Machine", "end", "(I)I"⟩) (owner := "ChantRules$Machine") G (mX11_end EN) q907 q909 (va_Decl.abs (va_Nw.warmD G.warm (EN.nw q908 rfl))) (by decide +kernel) q911 (sel_cons (r := (RX11, TX11, 3)) (by decide) rfl q910 (sel_nil)) q106 q912 nmk_113 (rm_of hF (Nat.le_of_ble_eq_true rfl) (Nat.le_of_ble_eq_true rfl)) dX2_useful_2_21 (tX2_useful_2_24 EN G hF hC hxt h9 h42 h56 h140) (sx_out G (fun z hz => (hxt z hz).elim)) ))
set_option maxHeartbeats 4000000 in
theorem tX2_useful_2_9 {x : CX} {E : Nat → Value} {Q : Rs → HS → Prop} {X9 X42 X56 X140 : Ct} (EN : EX x E) (G : Gd x cX2_useful_2 "ChantRules$Machine" yX2_useful_2 6 (Option.some (Jvm.ClassFile.FieldType.array Jvm.ClassFile.FieldType.boolean)) Q) (hF : x.1.2.2.2.frames = 6 ∧ x.1.2.2.2.locals = 153) (hC : x.2.2.2.2.2 = (fun _ => false)) (hxt : (∀ z ∈ x.2.2.1.2.1.exceptionTable.toList, False)) (h9 : Snd x 9 X9) (h42 : Snd x 42 X42) (h56 : Snd x 56 X56) (h140 : Snd x 140 X140) : Snd x 9 (bX2_useful_2_9 E Q X9 X42 X56 X140) := by
  unfold bX2_useful_2_9
  refine s_iload_n rfl G.b dX2_useful_2_9 ?_
  refine s_aload_n rfl G.b dX2_useful_2_10 ?_
  exact (s_vsel (s_callVU (w := ⟨"ChantRules$Machine", "states", "()I"⟩) (owner := "ChantRules$Machine") G (mX3_states EN) q866 q868 (va_Decl.abs (va_Nw.warmD G.warm (EN.nw q867 rfl))) (by decide +kernel) q873 (sel_cons (r := (RX3, TX3, 3)) (by decide) rfl q872 (sel_nil)) q79 q874 nmk_115 (rm_of hF (Nat.le_of_ble_eq_true rfl) (Nat.le_of_ble_eq_true rfl)) dX2_useful_2_11 (tX2_useful_2_14 EN G hF hC hxt h9 h42 h56 h140) (sx_out G (fun z hz => (hxt z hz).elim)) ) (s_callVU (w := ⟨"ChantRules$Machine", "states", "()I"⟩) (owner := "ChantRules$Machine") G (mX11_states EN) q866 q868 (va_Decl.abs (va_Nw.warmD G.warm (EN.nw q867 rfl))) (by decide +kernel) q870 (sel_cons (r := (RX11, TX11, 3)) (by decide) rfl q869 (sel_nil)) q106 q871 nmk_115 (rm_of hF (Nat.le_of_ble_eq_true rfl) (Nat.le_of_ble_eq_true rfl)) dX2_useful_2_11 (tX2_useful_2_14 EN G hF hC hxt h9 h42 h56 h140) (sx_out G (fun z hz => (hxt z hz).elim)) ))
set_option maxHeartbeats 4000000 in
theorem tX2_useful_2_4 {x : CX} {E : Nat → Value} {Q : Rs → HS → Prop} {X9 X42 X56 X140 : Ct} (EN : EX x E) (G : Gd x cX2_useful_2 "ChantRules$Machine" yX2_useful_2 6 (Option.some (Jvm.ClassFile.FieldType.array Jvm.ClassFile.FieldType.boolean)) Q) (hF : x.1.2.2.2.frames = 6 ∧ x.1.2.2.2.locals = 153) (hC : x.2.2.2.2.2 = (fun _ => false)) (hxt : (∀ z ∈ x.2.2.1.2.1.exceptionTable.toList, False)) (h9 : Snd x 9 X9) (h42 : Snd x 42 X42) (h56 : Snd x 56 X56) (h140 : Snd x 140 X140) : Snd x 4 (bX2_useful_2_4 E Q X9 X42 X56 X140) := by
  unfold bX2_useful_2_4
  refine s_newa (atype := .boolean) G.b G.kn G.gr G.hts q927 (by decide) (by decide) rfl (fun _ h => by cases h) (by decide) rfl dX2_useful_2_4 ?_
  refine s_astore_n rfl G.b (by rw [G.nl]; decide) (fun _ _ => by rw [hC]) dX2_useful_2_6 ?_
  refine s_iconst (by decide) G.b dX2_useful_2_7 ?_
  refine s_istore_n rfl G.b (by rw [G.nl]; decide) (fun _ _ => by rw [hC]) dX2_useful_2_8 ?_
  exact h9
set_option maxHeartbeats 4000000 in
theorem tX2_useful_2_0 {x : CX} {E : Nat → Value} {Q : Rs → HS → Prop} {X9 X42 X56 X140 : Ct} (EN : EX x E) (G : Gd x cX2_useful_2 "ChantRules$Machine" yX2_useful_2 6 (Option.some (Jvm.ClassFile.FieldType.array Jvm.ClassFile.FieldType.boolean)) Q) (hF : x.1.2.2.2.frames = 6 ∧ x.1.2.2.2.locals = 153) (hC : x.2.2.2.2.2 = (fun _ => false)) (hxt : (∀ z ∈ x.2.2.1.2.1.exceptionTable.toList, False)) (h9 : Snd x 9 X9) (h42 : Snd x 42 X42) (h56 : Snd x 56 X56) (h140 : Snd x 140 X140) : Snd x 0 (bX2_useful_2_0 E Q X9 X42 X56 X140) := by
  unfold bX2_useful_2_0
  refine s_aload_n rfl G.b dX2_useful_2_0 ?_
  exact (s_vsel (s_callVU (w := ⟨"ChantRules$Machine", "states", "()I"⟩) (owner := "ChantRules$Machine") G (mX3_states EN) q866 q868 (va_Decl.abs (va_Nw.warmD G.warm (EN.nw q867 rfl))) (by decide +kernel) q873 (sel_cons (r := (RX3, TX3, 3)) (by decide) rfl q872 (sel_nil)) q79 q874 nmk_115 (rm_of hF (Nat.le_of_ble_eq_true rfl) (Nat.le_of_ble_eq_true rfl)) dX2_useful_2_1 (tX2_useful_2_4 EN G hF hC hxt h9 h42 h56 h140) (sx_out G (fun z hz => (hxt z hz).elim)) ) (s_callVU (w := ⟨"ChantRules$Machine", "states", "()I"⟩) (owner := "ChantRules$Machine") G (mX11_states EN) q866 q868 (va_Decl.abs (va_Nw.warmD G.warm (EN.nw q867 rfl))) (by decide +kernel) q870 (sel_cons (r := (RX11, TX11, 3)) (by decide) rfl q869 (sel_nil)) q106 q871 nmk_115 (rm_of hF (Nat.le_of_ble_eq_true rfl) (Nat.le_of_ble_eq_true rfl)) dX2_useful_2_1 (tX2_useful_2_4 EN G hF hC hxt h9 h42 h56 h140) (sx_out G (fun z hz => (hxt z hz).elim)) ))
set_option maxHeartbeats 4000000 in
theorem mX2_useful_2 {l : Launch} {D : DE} {s0 : State} {E : Nat → Value} (EN : EV l D s0 E) : rMet l D s0 yX2_useful_2 (ws_ yX2_useful_2 cX2_useful_2 6 (Option.some (Jvm.ClassFile.FieldType.array Jvm.ClassFile.FieldType.boolean))) 6 153 (wX2_useful_2 E) := by
  refine body_met (fun _ => false) EN.kn (fun w h => h) (by decide +kernel) rfl (fun av h Q hw => ?_) ?_
  · unfold wX2_useful_2 at hw
    split at hw
    · exact Nat.le_of_ble_eq_true rfl
    · exact hw.elim
  · intro p e s m below meth c av h Q hxt G hw
    unfold wX2_useful_2 at hw
    split at hw
    · exact tX2_useful_2_0 EN G ⟨rfl, rfl⟩ rfl hxt (fun _ _ _ h => h) (fun _ _ _ h => h) (fun _ _ _ h => h) (fun _ _ _ h => h) _ _ _ (hw (AW _ 9) (AW _ 42) (AW _ 56) (AW _ 140) (tX2_useful_2_9 EN G ⟨rfl, rfl⟩ rfl hxt (fun _ _ _ h => h) (fun _ _ _ h => h) (fun _ _ _ h => h) (fun _ _ _ h => h)) (tX2_useful_2_42 EN G ⟨rfl, rfl⟩ rfl hxt (fun _ _ _ h => h) (fun _ _ _ h => h) (fun _ _ _ h => h) (fun _ _ _ h => h)) (tX2_useful_2_56 EN G ⟨rfl, rfl⟩ rfl hxt (fun _ _ _ h => h) (fun _ _ _ h => h) (fun _ _ _ h => h) (fun _ _ _ h => h)) (tX2_useful_2_140 EN G ⟨rfl, rfl⟩ rfl hxt (fun _ _ _ h => h) (fun _ _ _ h => h) (fun _ _ _ h => h) (fun _ _ _ h => h)))
    · exact hw.elim
/-! ChantRules$Rule.breathSet(I)I (X3_breathSet) -/
theorem nmk_130 : nm_ok ⟨"ChantRules$Rule", "from", "(IZ)[Z"⟩ 2 := ⟨by decide +kernel, by decide +kernel, by decide +kernel⟩
def bX3_breathSet_45 (E : Nat → Value) (Q : Rs → HS → Prop) (X12 : Ct) : Ct :=
  o_iload 2 <|
  o_ireturn .int Q
def bX3_breathSet_37 (E : Nat → Value) (Q : Rs → HS → Prop) (X12 : Ct) : Ct :=
  o_ior <|
  o_istore 2 <|
  o_iinc 4 1 <|
  X12
def bX3_breathSet_36 (E : Nat → Value) (Q : Rs → HS → Prop) (X12 : Ct) : Ct :=
  o_push (.int 0) <|
  (bX3_breathSet_37 E Q X12)
def bX3_breathSet_12 (E : Nat → Value) (Q : Rs → HS → Prop) (X12 : Ct) : Ct :=
  o_iload 4 <|
  o_aload 0 <|
  o_getf [2] 2 <|
  o_icmpge (bX3_breathSet_45 E Q X12) <|
  o_iload 2 <|
  o_aload 3 <|
  o_iload 4 <|
  o_ald [101, 102] <|
  o_ifeq (bX3_breathSet_36 E Q X12) <|
  o_push (.int 1) <|
  o_iload 4 <|
  o_ishl <|
  (bX3_breathSet_37 E Q X12)
def bX3_breathSet_0 (E : Nat → Value) (Q : Rs → HS → Prop) (X12 : Ct) : Ct :=
  o_push (.int 0) <|
  o_istore 2 <|
  o_aload 0 <|
  o_iload 1 <|
  o_push (.int 1) <|
  o_callV [2] 3 (wX2_from E) (x_out Q) <|
  o_astore 3 <|
  o_push (.int 0) <|
  o_istore 4 <|
  X12
def wX3_breathSet (E : Nat → Value) : Wp := fun av h Q => match av with
  | [a0, a1] => ∀ X12 : Ct, (∀ ls st h, bX3_breathSet_12 E Q X12 ls st h → X12 ls st h) → bX3_breathSet_0 E Q X12 [a0, a1, jk, jk, jk] [] h
  | _ => False
set_option maxHeartbeats 4000000 in
theorem tX3_breathSet_45 {x : CX} {E : Nat → Value} {Q : Rs → HS → Prop} {X12 : Ct} (EN : EX x E) (G : Gd x cX3_breathSet "ChantRules$Rule" yX3_breathSet 5 (Option.some Jvm.ClassFile.FieldType.int) Q) (hF : x.1.2.2.2.frames = 5 ∧ x.1.2.2.2.locals = 133) (hC : x.2.2.2.2.2 = (fun _ => false)) (hxt : (∀ z ∈ x.2.2.1.2.1.exceptionTable.toList, False)) (h12 : Snd x 12 X12) : Snd x 45 (bX3_breathSet_45 E Q X12) := by
  unfold bX3_breathSet_45
  refine s_iload_n rfl G.b dX3_breathSet_45 ?_
  exact s_ireturn G dX3_breathSet_46
set_option maxHeartbeats 4000000 in
theorem tX3_breathSet_37 {x : CX} {E : Nat → Value} {Q : Rs → HS → Prop} {X12 : Ct} (EN : EX x E) (G : Gd x cX3_breathSet "ChantRules$Rule" yX3_breathSet 5 (Option.some Jvm.ClassFile.FieldType.int) Q) (hF : x.1.2.2.2.frames = 5 ∧ x.1.2.2.2.locals = 133) (hC : x.2.2.2.2.2 = (fun _ => false)) (hxt : (∀ z ∈ x.2.2.1.2.1.exceptionTable.toList, False)) (h12 : Snd x 12 X12) : Snd x 37 (bX3_breathSet_37 E Q X12) := by
  unfold bX3_breathSet_37
  refine s_ior G.b dX3_breathSet_37 ?_
  refine s_istore_n rfl G.b (by rw [G.nl]; decide) (fun _ _ => by rw [hC]) dX3_breathSet_38 ?_
  refine s_iinc (by decide) G.b (by rw [G.nl]; decide) (fun _ _ => by rw [hC]) dX3_breathSet_39 ?_
  exact s_goto (tgt := 12) G.b dX3_breathSet_42 (by decide) h12
set_option maxHeartbeats 4000000 in
theorem tX3_breathSet_36 {x : CX} {E : Nat → Value} {Q : Rs → HS → Prop} {X12 : Ct} (EN : EX x E) (G : Gd x cX3_breathSet "ChantRules$Rule" yX3_breathSet 5 (Option.some Jvm.ClassFile.FieldType.int) Q) (hF : x.1.2.2.2.frames = 5 ∧ x.1.2.2.2.locals = 133) (hC : x.2.2.2.2.2 = (fun _ => false)) (hxt : (∀ z ∈ x.2.2.1.2.1.exceptionTable.toList, False)) (h12 : Snd x 12 X12) : Snd x 36 (bX3_breathSet_36 E Q X12) := by
  unfold bX3_breathSet_36
  refine s_iconst (by decide) G.b dX3_breathSet_36 ?_
  exact (tX3_breathSet_37 EN G hF hC hxt h12)
set_option maxHeartbeats 4000000 in
theorem tX3_breathSet_12 {x : CX} {E : Nat → Value} {Q : Rs → HS → Prop} {X12 : Ct} (EN : EX x E) (G : Gd x cX3_breathSet "ChantRules$Rule" yX3_breathSet 5 (Option.some Jvm.ClassFile.FieldType.int) Q) (hF : x.1.2.2.2.frames = 5 ∧ x.1.2.2.2.locals = 133) (hC : x.2.2.2.2.2 = (fun _ => false)) (hxt : (∀ z ∈ x.2.2.1.2.1.exceptionTable.toList, False)) (h12 : Snd x 12 X12) : Snd x 12 (bX3_breathSet_12 E Q X12) := by
  unfold bX3_breathSet_12
  refine s_iload G.b dX3_breathSet_12 ?_
  refine s_aload_n rfl G.b dX3_breathSet_14 ?_
  refine s_getf G.b G.ow G.kn (G.hts _ q180) (fun _ h => h) fa_4 dX3_breathSet_15 ?_
  refine s_icmpge (tgt := 45) G.b dX3_breathSet_18 (by decide) (tX3_breathSet_45 EN G hF hC hxt h12) ?_
  refine s_iload_n rfl G.b dX3_breathSet_21 ?_
  refine s_aload_n rfl G.b dX3_breathSet_22 ?_
  refine s_iload G.b dX3_breathSet_23 ?_
  refine s_bald G.b G.kn dX3_breathSet_25 ?_
  refine s_ifeq (tgt := 36) G.b dX3_breathSet_26 (by decide) (tX3_breathSet_36 EN G hF hC hxt h12) ?_
  refine s_iconst (by decide) G.b dX3_breathSet_29 ?_
  refine s_iload G.b dX3_breathSet_30 ?_
  refine s_ishl G.b dX3_breathSet_32 ?_
  exact s_goto (tgt := 37) G.b dX3_breathSet_33 (by decide) (tX3_breathSet_37 EN G hF hC hxt h12)
set_option maxHeartbeats 4000000 in
theorem tX3_breathSet_0 {x : CX} {E : Nat → Value} {Q : Rs → HS → Prop} {X12 : Ct} (EN : EX x E) (G : Gd x cX3_breathSet "ChantRules$Rule" yX3_breathSet 5 (Option.some Jvm.ClassFile.FieldType.int) Q) (hF : x.1.2.2.2.frames = 5 ∧ x.1.2.2.2.locals = 133) (hC : x.2.2.2.2.2 = (fun _ => false)) (hxt : (∀ z ∈ x.2.2.1.2.1.exceptionTable.toList, False)) (h12 : Snd x 12 X12) : Snd x 0 (bX3_breathSet_0 E Q X12) := by
  unfold bX3_breathSet_0
  refine s_iconst (by decide) G.b dX3_breathSet_0 ?_
  refine s_istore_n rfl G.b (by rw [G.nl]; decide) (fun _ _ => by rw [hC]) dX3_breathSet_1 ?_
  refine s_aload_n rfl G.b dX3_breathSet_2 ?_
  refine s_iload_n rfl G.b dX3_breathSet_3 ?_
  refine s_iconst (by decide) G.b dX3_breathSet_4 ?_
  refine s_callVU (w := ⟨"ChantRules$Rule", "from", "(IZ)[Z"⟩) (owner := "ChantRules$Machine") G (mX2_from EN) q923 q924 (va_Decl.of (G.hts _ q861) (G.hts _ q865)) (by decide +kernel) q861 (sel_cons (r := (RX3, TX3, 3)) (by decide) rfl q926 (sel_nil)) q78 q865 nmk_130 (rm_of hF (Nat.le_of_ble_eq_true rfl) (Nat.le_of_ble_eq_true rfl)) dX3_breathSet_5 ?_ (sx_out G (fun z hz => (hxt z hz).elim))
  refine s_astore_n rfl G.b (by rw [G.nl]; decide) (fun _ _ => by rw [hC]) dX3_breathSet_8 ?_
  refine s_iconst (by decide) G.b dX3_breathSet_9 ?_
  refine s_istore G.b (by rw [G.nl]; decide) (fun _ _ => by rw [hC]) dX3_breathSet_10 ?_
  exact h12
set_option maxHeartbeats 4000000 in
theorem mX3_breathSet {l : Launch} {D : DE} {s0 : State} {E : Nat → Value} (EN : EV l D s0 E) : rMet l D s0 yX3_breathSet (ws_ yX3_breathSet cX3_breathSet 5 (Option.some Jvm.ClassFile.FieldType.int)) 5 133 (wX3_breathSet E) := by
  refine body_met (fun _ => false) EN.kn (fun w h => h) (by decide +kernel) rfl (fun av h Q hw => ?_) ?_
  · unfold wX3_breathSet at hw
    split at hw
    · exact Nat.le_of_ble_eq_true rfl
    · exact hw.elim
  · intro p e s m below meth c av h Q hxt G hw
    unfold wX3_breathSet at hw
    split at hw
    · exact tX3_breathSet_0 EN G ⟨rfl, rfl⟩ rfl hxt (fun _ _ _ h => h) _ _ _ (hw (AW _ 12) (tX3_breathSet_12 EN G ⟨rfl, rfl⟩ rfl hxt (fun _ _ _ h => h)))
    · exact hw.elim
/-! ChantRules$Rule.comesBack(I)Z (X3_comesBack) -/
theorem nmk_131 : nm_ok yX3_breathSet 1 := ⟨by decide +kernel, by decide +kernel, by decide +kernel⟩
def bX3_comesBack_79 (E : Nat → Value) (Q : Rs → HS → Prop) (X10 : Ct) : Ct :=
  o_iload 2 <|
  o_ireturn .boolean Q
def bX3_comesBack_74 (E : Nat → Value) (Q : Rs → HS → Prop) (X10 : Ct) : Ct :=
  o_ior <|
  o_istore 2 <|
  X10
def bX3_comesBack_73 (E : Nat → Value) (Q : Rs → HS → Prop) (X10 : Ct) : Ct :=
  o_push (.int 0) <|
  (bX3_comesBack_74 E Q X10)
def bX3_comesBack_58 (E : Nat → Value) (Q : Rs → HS → Prop) (X10 : Ct) : Ct :=
  o_callV [2] 2 (wX3_breathSet E) (x_out Q) <|
  o_iload 1 <|
  o_ishr <|
  o_push (.int 1) <|
  o_iand <|
  o_push (.int 1) <|
  o_icmpne (bX3_comesBack_73 E Q X10) <|
  o_push (.int 1) <|
  (bX3_comesBack_74 E Q X10)
def bX3_comesBack_46 (E : Nat → Value) (Q : Rs → HS → Prop) (X10 : Ct) : Ct :=
  o_iload 1 <|
  o_icmpne (bX3_comesBack_73 E Q X10) <|
  o_aload 0 <|
  o_aload 4 <|
  o_vsel 1 [10] (o_callV [10] 1 (wX7_to E) (x_out Q) (bX3_comesBack_58 E Q X10)) (o_callV [11] 1 (wX8_to E) (x_out Q) (bX3_comesBack_58 E Q X10))
def bX3_comesBack_10 (E : Nat → Value) (Q : Rs → HS → Prop) (X10 : Ct) : Ct :=
  o_aload 3 <|
  o_callV [20] 1 (wJ9_hasNext E) (x_out Q) <|
  o_ifeq (bX3_comesBack_79 E Q X10) <|
  o_aload 3 <|
  o_callV [20] 1 (wJ9_next E) (x_out Q) <|
  o_cast [10, 11] <|
  o_astore 4 <|
  o_iload 2 <|
  o_aload 4 <|
  o_inst [10] [11] <|
  o_ifeq (bX3_comesBack_73 E Q X10) <|
  o_aload 4 <|
  o_vsel 1 [10] (o_callV [10] 1 (wX7_from E) (x_out Q) (bX3_comesBack_46 E Q X10)) (o_callV [11] 1 (wX8_from E) (x_out Q) (bX3_comesBack_46 E Q X10))
def bX3_comesBack_0 (E : Nat → Value) (Q : Rs → HS → Prop) (X10 : Ct) : Ct :=
  o_push (.int 0) <|
  o_istore 2 <|
  o_aload 0 <|
  o_getf [2] 0 <|
  o_callV [15] 1 (wJ2_iterator E) (x_out Q) <|
  o_astore 3 <|
  X10
def wX3_comesBack (E : Nat → Value) : Wp := fun av h Q => match av with
  | [a0, a1] => ∀ X10 : Ct, (∀ ls st h, bX3_comesBack_10 E Q X10 ls st h → X10 ls st h) → bX3_comesBack_0 E Q X10 [a0, a1, jk, jk, jk] [] h
  | _ => False
set_option maxHeartbeats 4000000 in
theorem tX3_comesBack_79 {x : CX} {E : Nat → Value} {Q : Rs → HS → Prop} {X10 : Ct} (EN : EX x E) (G : Gd x cX3_comesBack "ChantRules$Rule" yX3_comesBack 5 (Option.some Jvm.ClassFile.FieldType.boolean) Q) (hF : x.1.2.2.2.frames = 6 ∧ x.1.2.2.2.locals = 157) (hC : x.2.2.2.2.2 = (fun _ => false)) (hxt : (∀ z ∈ x.2.2.1.2.1.exceptionTable.toList, False)) (h10 : Snd x 10 X10) : Snd x 79 (bX3_comesBack_79 E Q X10) := by
  unfold bX3_comesBack_79
  refine s_iload_n rfl G.b dX3_comesBack_79 ?_
  exact s_ireturn G dX3_comesBack_80
set_option maxHeartbeats 4000000 in
theorem tX3_comesBack_74 {x : CX} {E : Nat → Value} {Q : Rs → HS → Prop} {X10 : Ct} (EN : EX x E) (G : Gd x cX3_comesBack "ChantRules$Rule" yX3_comesBack 5 (Option.some Jvm.ClassFile.FieldType.boolean) Q) (hF : x.1.2.2.2.frames = 6 ∧ x.1.2.2.2.locals = 157) (hC : x.2.2.2.2.2 = (fun _ => false)) (hxt : (∀ z ∈ x.2.2.1.2.1.exceptionTable.toList, False)) (h10 : Snd x 10 X10) : Snd x 74 (bX3_comesBack_74 E Q X10) := by
  unfold bX3_comesBack_74
  refine s_ior G.b dX3_comesBack_74 ?_
  refine s_istore_n rfl G.b (by rw [G.nl]; decide) (fun _ _ => by rw [hC]) dX3_comesBack_75 ?_
  exact s_goto (tgt := 10) G.b dX3_comesBack_76 (by decide) h10
set_option maxHeartbeats 4000000 in
theorem tX3_comesBack_73 {x : CX} {E : Nat → Value} {Q : Rs → HS → Prop} {X10 : Ct} (EN : EX x E) (G : Gd x cX3_comesBack "ChantRules$Rule" yX3_comesBack 5 (Option.some Jvm.ClassFile.FieldType.boolean) Q) (hF : x.1.2.2.2.frames = 6 ∧ x.1.2.2.2.locals = 157) (hC : x.2.2.2.2.2 = (fun _ => false)) (hxt : (∀ z ∈ x.2.2.1.2.1.exceptionTable.toList, False)) (h10 : Snd x 10 X10) : Snd x 73 (bX3_comesBack_73 E Q X10) := by
  unfold bX3_comesBack_73
  refine s_iconst (by decide) G.b dX3_comesBack_73 ?_
  exact (tX3_comesBack_74 EN G hF hC hxt h10)
set_option maxHeartbeats 4000000 in
theorem tX3_comesBack_58 {x : CX} {E : Nat → Value} {Q : Rs → HS → Prop} {X10 : Ct} (EN : EX x E) (G : Gd x cX3_comesBack "ChantRules$Rule" yX3_comesBack 5 (Option.some Jvm.ClassFile.FieldType.boolean) Q) (hF : x.1.2.2.2.frames = 6 ∧ x.1.2.2.2.locals = 157) (hC : x.2.2.2.2.2 = (fun _ => false)) (hxt : (∀ z ∈ x.2.2.1.2.1.exceptionTable.toList, False)) (h10 : Snd x 10 X10) : Snd x 58 (bX3_comesBack_58 E Q X10) := by
  unfold bX3_comesBack_58
  refine s_callV G (mX3_breathSet EN) q919 q921 (sel_cons (r := (RX3, TX3, 3)) (by decide) rfl qs9 (sel_nil)) q79 q922 nmk_131 (rm_of hF (Nat.le_of_ble_eq_true rfl) (Nat.le_of_ble_eq_true rfl)) dX3_comesBack_58 ?_ (sx_out G (fun z hz => (hxt z hz).elim))
  refine s_iload_n rfl G.b dX3_comesBack_61 ?_
  refine s_ishr G.b dX3_comesBack_62 ?_
  refine s_iconst (by decide) G.b dX3_comesBack_63 ?_
  refine s_iand G.b dX3_comesBack_64 ?_
  refine s_iconst (by decide) G.b dX3_comesBack_65 ?_
  refine s_icmpne (tgt := 73) G.b dX3_comesBack_66 (by decide) (tX3_comesBack_73 EN G hF hC hxt h10) ?_
  refine s_iconst (by decide) G.b dX3_comesBack_69 ?_
  exact s_goto (tgt := 74) G.b dX3_comesBack_70 (by decide) (tX3_comesBack_74 EN G hF hC hxt h10)
set_option maxHeartbeats 4000000 in
theorem tX3_comesBack_46 {x : CX} {E : Nat → Value} {Q : Rs → HS → Prop} {X10 : Ct} (EN : EX x E) (G : Gd x cX3_comesBack "ChantRules$Rule" yX3_comesBack 5 (Option.some Jvm.ClassFile.FieldType.boolean) Q) (hF : x.1.2.2.2.frames = 6 ∧ x.1.2.2.2.locals = 157) (hC : x.2.2.2.2.2 = (fun _ => false)) (hxt : (∀ z ∈ x.2.2.1.2.1.exceptionTable.toList, False)) (h10 : Snd x 10 X10) : Snd x 46 (bX3_comesBack_46 E Q X10) := by
  unfold bX3_comesBack_46
  refine s_iload_n rfl G.b dX3_comesBack_46 ?_
  refine s_icmpne (tgt := 73) G.b dX3_comesBack_47 (by decide) (tX3_comesBack_73 EN G hF hC hxt h10) ?_
  refine s_aload_n rfl G.b dX3_comesBack_50 ?_
  refine s_aload G.b dX3_comesBack_51 ?_
  exact (s_vsel (s_callF (r0 := (RX7, TX7, 4)) (w := ⟨"ChantRules$Arc", "to", "()I"⟩) (by decide) rfl G (mX7_to EN) q841 (va_Fw.moved (by decide +kernel) G.warm.alike ⟨(EN.nw q726 rfl), (EN.nw q725 rfl), (EN.nw q730 rfl), (EN.nw q728 rfl), (EN.nw q287 rfl)⟩) q727 q729 q99 q731 nmk_69 (rm_of hF (Nat.le_of_ble_eq_true rfl) (Nat.le_of_ble_eq_true rfl)) dX3_comesBack_53 (tX3_comesBack_58 EN G hF hC hxt h10) (sx_out G (fun z hz => (hxt z hz).elim)) ) (s_callF (r0 := (RX8, TX8, 5)) (w := ⟨"ChantRules$Arc", "to", "()I"⟩) (by decide) rfl G (mX8_to EN) q841 (va_Fw.moved (by decide +kernel) G.warm.alike ⟨(EN.nw q726 rfl), (EN.nw q725 rfl), (EN.nw q735 rfl), (EN.nw q733 rfl), (EN.nw q293 rfl)⟩) q732 q734 q100 q736 nmk_69 (rm_of hF (Nat.le_of_ble_eq_true rfl) (Nat.le_of_ble_eq_true rfl)) dX3_comesBack_53 (tX3_comesBack_58 EN G hF hC hxt h10) (sx_out G (fun z hz => (hxt z hz).elim)) ))
set_option maxHeartbeats 4000000 in
theorem tX3_comesBack_10 {x : CX} {E : Nat → Value} {Q : Rs → HS → Prop} {X10 : Ct} (EN : EX x E) (G : Gd x cX3_comesBack "ChantRules$Rule" yX3_comesBack 5 (Option.some Jvm.ClassFile.FieldType.boolean) Q) (hF : x.1.2.2.2.frames = 6 ∧ x.1.2.2.2.locals = 157) (hC : x.2.2.2.2.2 = (fun _ => false)) (hxt : (∀ z ∈ x.2.2.1.2.1.exceptionTable.toList, False)) (h10 : Snd x 10 X10) : Snd x 10 (bX3_comesBack_10 E Q X10) := by
  unfold bX3_comesBack_10
  refine s_aload_n rfl G.b dX3_comesBack_10 ?_
  refine s_callF (r0 := (RJ9, TJ9, 4)) (w := ⟨"java/util/Iterator", "hasNext", "()Z"⟩) (by decide) rfl G (mJ9_hasNext EN) q378 (va_Fw.moved (by decide +kernel) G.warm.alike ⟨(EN.nw q380 rfl), (EN.nw q379 rfl), (EN.nw q385 rfl), (EN.nw q383 rfl), (EN.nw q381 rfl)⟩) q382 q384 q91 q386 nmk_15 (rm_of hF (Nat.le_of_ble_eq_true rfl) (Nat.le_of_ble_eq_true rfl)) dX3_comesBack_11 ?_ (sx_out G (fun z hz => (hxt z hz).elim))
  refine s_ifeq (tgt := 79) G.b dX3_comesBack_16 (by decide) (tX3_comesBack_79 EN G hF hC hxt h10) ?_
  refine s_aload_n rfl G.b dX3_comesBack_19 ?_
  refine s_callF (r0 := (RJ9, TJ9, 4)) (w := ⟨"java/util/Iterator", "next", "()Ljava/lang/Object;"⟩) (by decide) rfl G (mJ9_next EN) q388 (va_Fw.moved (by decide +kernel) G.warm.alike ⟨(EN.nw q390 rfl), (EN.nw q389 rfl), (EN.nw q394 rfl), (EN.nw q392 rfl), (EN.nw q381 rfl)⟩) q391 q393 q91 q395 nmk_16 (rm_of hF (Nat.le_of_ble_eq_true rfl) (Nat.le_of_ble_eq_true rfl)) dX3_comesBack_20 ?_ (sx_out G (fun z hz => (hxt z hz).elim))
  refine s_cast G.b G.ow G.kn G.hts q400 ct_1 dX3_comesBack_25 ?_
  refine s_astore G.b (by rw [G.nl]; decide) (fun _ _ => by rw [hC]) dX3_comesBack_28 ?_
  refine s_iload_n rfl G.b dX3_comesBack_30 ?_
  refine s_aload G.b dX3_comesBack_31 ?_
  refine s_inst G.b G.ow G.kn G.hts q1408 ct_6y ct_6n dX3_comesBack_33 ?_
  refine s_ifeq (tgt := 73) G.b dX3_comesBack_36 (by decide) (tX3_comesBack_73 EN G hF hC hxt h10) ?_
  refine s_aload G.b dX3_comesBack_39 ?_
  exact (s_vsel (s_callF (r0 := (RX7, TX7, 4)) (w := ⟨"ChantRules$Arc", "from", "()I"⟩) (by decide) rfl G (mX7_from EN) q839 (va_Fw.moved (by decide +kernel) G.warm.alike ⟨(EN.nw q712 rfl), (EN.nw q711 rfl), (EN.nw q716 rfl), (EN.nw q714 rfl), (EN.nw q287 rfl)⟩) q713 q715 q99 q717 nmk_70 (rm_of hF (Nat.le_of_ble_eq_true rfl) (Nat.le_of_ble_eq_true rfl)) dX3_comesBack_41 (tX3_comesBack_46 EN G hF hC hxt h10) (sx_out G (fun z hz => (hxt z hz).elim)) ) (s_callF (r0 := (RX8, TX8, 5)) (w := ⟨"ChantRules$Arc", "from", "()I"⟩) (by decide) rfl G (mX8_from EN) q839 (va_Fw.moved (by decide +kernel) G.warm.alike ⟨(EN.nw q712 rfl), (EN.nw q711 rfl), (EN.nw q721 rfl), (EN.nw q719 rfl), (EN.nw q293 rfl)⟩) q718 q720 q100 q722 nmk_70 (rm_of hF (Nat.le_of_ble_eq_true rfl) (Nat.le_of_ble_eq_true rfl)) dX3_comesBack_41 (tX3_comesBack_46 EN G hF hC hxt h10) (sx_out G (fun z hz => (hxt z hz).elim)) ))
set_option maxHeartbeats 4000000 in
theorem tX3_comesBack_0 {x : CX} {E : Nat → Value} {Q : Rs → HS → Prop} {X10 : Ct} (EN : EX x E) (G : Gd x cX3_comesBack "ChantRules$Rule" yX3_comesBack 5 (Option.some Jvm.ClassFile.FieldType.boolean) Q) (hF : x.1.2.2.2.frames = 6 ∧ x.1.2.2.2.locals = 157) (hC : x.2.2.2.2.2 = (fun _ => false)) (hxt : (∀ z ∈ x.2.2.1.2.1.exceptionTable.toList, False)) (h10 : Snd x 10 X10) : Snd x 0 (bX3_comesBack_0 E Q X10) := by
  unfold bX3_comesBack_0
  refine s_iconst (by decide) G.b dX3_comesBack_0 ?_
  refine s_istore_n rfl G.b (by rw [G.nl]; decide) (fun _ _ => by rw [hC]) dX3_comesBack_1 ?_
  refine s_aload_n rfl G.b dX3_comesBack_2 ?_
  refine s_getf G.b G.ow G.kn (G.hts _ q175) (fun _ h => h) fa_3 dX3_comesBack_3 ?_
  refine s_callV G (mJ2_iterator EN) q354 q355 (sel_cons (r := (RJ2, TJ2, 3)) (by decide) rfl q356 (sel_nil)) q82 q357 nmk_18 (rm_of hF (Nat.le_of_ble_eq_true rfl) (Nat.le_of_ble_eq_true rfl)) dX3_comesBack_6 ?_ (sx_out G (fun z hz => (hxt z hz).elim))
  refine s_astore_n rfl G.b (by rw [G.nl]; decide) (fun _ _ => by rw [hC]) dX3_comesBack_9 ?_
  exact h10
set_option maxHeartbeats 4000000 in
theorem mX3_comesBack {l : Launch} {D : DE} {s0 : State} {E : Nat → Value} (EN : EV l D s0 E) : rMet l D s0 yX3_comesBack (ws_ yX3_comesBack cX3_comesBack 5 (Option.some Jvm.ClassFile.FieldType.boolean)) 6 157 (wX3_comesBack E) := by
  refine body_met (fun _ => false) EN.kn (fun w h => h) (by decide +kernel) rfl (fun av h Q hw => ?_) ?_
  · unfold wX3_comesBack at hw
    split at hw
    · exact Nat.le_of_ble_eq_true rfl
    · exact hw.elim
  · intro p e s m below meth c av h Q hxt G hw
    unfold wX3_comesBack at hw
    split at hw
    · exact tX3_comesBack_0 EN G ⟨rfl, rfl⟩ rfl hxt (fun _ _ _ h => h) _ _ _ (hw (AW _ 10) (tX3_comesBack_10 EN G ⟨rfl, rfl⟩ rfl hxt (fun _ _ _ h => h)))
    · exact hw.elim
/-! ChantRules$Rule.breathes()Z (X3_breathes) -/
theorem nmk_132 : nm_ok yX3_comesBack 1 := ⟨by decide +kernel, by decide +kernel, by decide +kernel⟩
theorem nmk_133 : nm_ok ⟨"ChantRules$Rule", "useful", "()[Z"⟩ 0 := ⟨by decide +kernel, by decide +kernel, by decide +kernel⟩
def bX3_breathes_45 (E : Nat → Value) (Q : Rs → HS → Prop) (X9 : Ct) : Ct :=
  o_iload 1 <|
  o_ireturn .boolean Q
def bX3_breathes_37 (E : Nat → Value) (Q : Rs → HS → Prop) (X9 : Ct) : Ct :=
  o_ior <|
  o_istore 1 <|
  o_iinc 3 1 <|
  X9
def bX3_breathes_36 (E : Nat → Value) (Q : Rs → HS → Prop) (X9 : Ct) : Ct :=
  o_push (.int 0) <|
  (bX3_breathes_37 E Q X9)
def bX3_breathes_9 (E : Nat → Value) (Q : Rs → HS → Prop) (X9 : Ct) : Ct :=
  o_iload 3 <|
  o_aload 0 <|
  o_getf [2] 2 <|
  o_icmpge (bX3_breathes_45 E Q X9) <|
  o_iload 1 <|
  o_aload 2 <|
  o_iload 3 <|
  o_ald [101, 102] <|
  o_ifeq (bX3_breathes_36 E Q X9) <|
  o_aload 0 <|
  o_iload 3 <|
  o_callV [2] 2 (wX3_comesBack E) (x_out Q) <|
  o_ifeq (bX3_breathes_36 E Q X9) <|
  o_push (.int 1) <|
  (bX3_breathes_37 E Q X9)
def bX3_breathes_0 (E : Nat → Value) (Q : Rs → HS → Prop) (X9 : Ct) : Ct :=
  o_push (.int 0) <|
  o_istore 1 <|
  o_aload 0 <|
  o_callV [2] 1 (wX2_useful_2 E) (x_out Q) <|
  o_astore 2 <|
  o_push (.int 0) <|
  o_istore 3 <|
  X9
def wX3_breathes (E : Nat → Value) : Wp := fun av h Q => match av with
  | [a0] => ∀ X9 : Ct, (∀ ls st h, bX3_breathes_9 E Q X9 ls st h → X9 ls st h) → bX3_breathes_0 E Q X9 [a0, jk, jk, jk] [] h
  | _ => False
set_option maxHeartbeats 4000000 in
theorem tX3_breathes_45 {x : CX} {E : Nat → Value} {Q : Rs → HS → Prop} {X9 : Ct} (EN : EX x E) (G : Gd x cX3_breathes "ChantRules$Rule" yX3_breathes 4 (Option.some Jvm.ClassFile.FieldType.boolean) Q) (hF : x.1.2.2.2.frames = 7 ∧ x.1.2.2.2.locals = 181) (hC : x.2.2.2.2.2 = (fun _ => false)) (hxt : (∀ z ∈ x.2.2.1.2.1.exceptionTable.toList, False)) (h9 : Snd x 9 X9) : Snd x 45 (bX3_breathes_45 E Q X9) := by
  unfold bX3_breathes_45
  refine s_iload_n rfl G.b dX3_breathes_45 ?_
  exact s_ireturn G dX3_breathes_46
set_option maxHeartbeats 4000000 in
theorem tX3_breathes_37 {x : CX} {E : Nat → Value} {Q : Rs → HS → Prop} {X9 : Ct} (EN : EX x E) (G : Gd x cX3_breathes "ChantRules$Rule" yX3_breathes 4 (Option.some Jvm.ClassFile.FieldType.boolean) Q) (hF : x.1.2.2.2.frames = 7 ∧ x.1.2.2.2.locals = 181) (hC : x.2.2.2.2.2 = (fun _ => false)) (hxt : (∀ z ∈ x.2.2.1.2.1.exceptionTable.toList, False)) (h9 : Snd x 9 X9) : Snd x 37 (bX3_breathes_37 E Q X9) := by
  unfold bX3_breathes_37
  refine s_ior G.b dX3_breathes_37 ?_
  refine s_istore_n rfl G.b (by rw [G.nl]; decide) (fun _ _ => by rw [hC]) dX3_breathes_38 ?_
  refine s_iinc (by decide) G.b (by rw [G.nl]; decide) (fun _ _ => by rw [hC]) dX3_breathes_39 ?_
  exact s_goto (tgt := 9) G.b dX3_breathes_42 (by decide) h9
set_option maxHeartbeats 4000000 in
theorem tX3_breathes_36 {x : CX} {E : Nat → Value} {Q : Rs → HS → Prop} {X9 : Ct} (EN : EX x E) (G : Gd x cX3_breathes "ChantRules$Rule" yX3_breathes 4 (Option.some Jvm.ClassFile.FieldType.boolean) Q) (hF : x.1.2.2.2.frames = 7 ∧ x.1.2.2.2.locals = 181) (hC : x.2.2.2.2.2 = (fun _ => false)) (hxt : (∀ z ∈ x.2.2.1.2.1.exceptionTable.toList, False)) (h9 : Snd x 9 X9) : Snd x 36 (bX3_breathes_36 E Q X9) := by
  unfold bX3_breathes_36
  refine s_iconst (by decide) G.b dX3_breathes_36 ?_
  exact (tX3_breathes_37 EN G hF hC hxt h9)
set_option maxHeartbeats 4000000 in
theorem tX3_breathes_9 {x : CX} {E : Nat → Value} {Q : Rs → HS → Prop} {X9 : Ct} (EN : EX x E) (G : Gd x cX3_breathes "ChantRules$Rule" yX3_breathes 4 (Option.some Jvm.ClassFile.FieldType.boolean) Q) (hF : x.1.2.2.2.frames = 7 ∧ x.1.2.2.2.locals = 181) (hC : x.2.2.2.2.2 = (fun _ => false)) (hxt : (∀ z ∈ x.2.2.1.2.1.exceptionTable.toList, False)) (h9 : Snd x 9 X9) : Snd x 9 (bX3_breathes_9 E Q X9) := by
  unfold bX3_breathes_9
  refine s_iload_n rfl G.b dX3_breathes_9 ?_
  refine s_aload_n rfl G.b dX3_breathes_10 ?_
  refine s_getf G.b G.ow G.kn (G.hts _ q180) (fun _ h => h) fa_4 dX3_breathes_11 ?_
  refine s_icmpge (tgt := 45) G.b dX3_breathes_14 (by decide) (tX3_breathes_45 EN G hF hC hxt h9) ?_
  refine s_iload_n rfl G.b dX3_breathes_17 ?_
  refine s_aload_n rfl G.b dX3_breathes_18 ?_
  refine s_iload_n rfl G.b dX3_breathes_19 ?_
  refine s_bald G.b G.kn dX3_breathes_20 ?_
  refine s_ifeq (tgt := 36) G.b dX3_breathes_21 (by decide) (tX3_breathes_36 EN G hF hC hxt h9) ?_
  refine s_aload_n rfl G.b dX3_breathes_24 ?_
  refine s_iload_n rfl G.b dX3_breathes_25 ?_
  refine s_callV G (mX3_comesBack EN) q1404 q1406 (sel_cons (r := (RX3, TX3, 3)) (by decide) rfl qs20 (sel_nil)) q79 q1407 nmk_132 (rm_of hF (Nat.le_of_ble_eq_true rfl) (Nat.le_of_ble_eq_true rfl)) dX3_breathes_26 ?_ (sx_out G (fun z hz => (hxt z hz).elim))
  refine s_ifeq (tgt := 36) G.b dX3_breathes_29 (by decide) (tX3_breathes_36 EN G hF hC hxt h9) ?_
  refine s_iconst (by decide) G.b dX3_breathes_32 ?_
  exact s_goto (tgt := 37) G.b dX3_breathes_33 (by decide) (tX3_breathes_37 EN G hF hC hxt h9)
set_option maxHeartbeats 4000000 in
theorem tX3_breathes_0 {x : CX} {E : Nat → Value} {Q : Rs → HS → Prop} {X9 : Ct} (EN : EX x E) (G : Gd x cX3_breathes "ChantRules$Rule" yX3_breathes 4 (Option.some Jvm.ClassFile.FieldType.boolean) Q) (hF : x.1.2.2.2.frames = 7 ∧ x.1.2.2.2.locals = 181) (hC : x.2.2.2.2.2 = (fun _ => false)) (hxt : (∀ z ∈ x.2.2.1.2.1.exceptionTable.toList, False)) (h9 : Snd x 9 X9) : Snd x 0 (bX3_breathes_0 E Q X9) := by
  unfold bX3_breathes_0
  refine s_iconst (by decide) G.b dX3_breathes_0 ?_
  refine s_istore_n rfl G.b (by rw [G.nl]; decide) (fun _ _ => by rw [hC]) dX3_breathes_1 ?_
  refine s_aload_n rfl G.b dX3_breathes_2 ?_
  refine s_callVU (w := ⟨"ChantRules$Rule", "useful", "()[Z"⟩) (owner := "ChantRules$Machine") G (mX2_useful_2 EN) q1400 q1401 (va_Decl.of (G.hts _ q902) (G.hts _ q906)) (by decide +kernel) q902 (sel_cons (r := (RX3, TX3, 3)) (by decide) rfl q1403 (sel_nil)) q78 q906 nmk_133 (rm_of hF (Nat.le_of_ble_eq_true rfl) (Nat.le_of_ble_eq_true rfl)) dX3_breathes_3 ?_ (sx_out G (fun z hz => (hxt z hz).elim))
  refine s_astore_n rfl G.b (by rw [G.nl]; decide) (fun _ _ => by rw [hC]) dX3_breathes_6 ?_
  refine s_iconst (by decide) G.b dX3_breathes_7 ?_
  refine s_istore_n rfl G.b (by rw [G.nl]; decide) (fun _ _ => by rw [hC]) dX3_breathes_8 ?_
  exact h9
set_option maxHeartbeats 4000000 in
theorem mX3_breathes {l : Launch} {D : DE} {s0 : State} {E : Nat → Value} (EN : EV l D s0 E) : rMet l D s0 yX3_breathes (ws_ yX3_breathes cX3_breathes 4 (Option.some Jvm.ClassFile.FieldType.boolean)) 7 181 (wX3_breathes E) := by
  refine body_met (fun _ => false) EN.kn (fun w h => h) (by decide +kernel) rfl (fun av h Q hw => ?_) ?_
  · unfold wX3_breathes at hw
    split at hw
    · exact Nat.le_of_ble_eq_true rfl
    · exact hw.elim
  · intro p e s m below meth c av h Q hxt G hw
    unfold wX3_breathes at hw
    split at hw
    · exact tX3_breathes_0 EN G ⟨rfl, rfl⟩ rfl hxt (fun _ _ _ h => h) _ _ _ (hw (AW _ 9) (tX3_breathes_9 EN G ⟨rfl, rfl⟩ rfl hxt (fun _ _ _ h => h)))
    · exact hw.elim
/-! ChantRules.breathes(I)I (X0_breathes) -/
theorem nmk_134 : nm_ok yX3_breathes 0 := ⟨by decide +kernel, by decide +kernel, by decide +kernel⟩
def bX0_breathes_32 (E : Nat → Value) (Q : Rs → HS → Prop) : Ct :=
  o_ireturn .int Q
def bX0_breathes_31 (E : Nat → Value) (Q : Rs → HS → Prop) : Ct :=
  o_push (.int 0) <|
  (bX0_breathes_32 E Q)
def bX0_breathes_12 (E : Nat → Value) (Q : Rs → HS → Prop) : Ct :=
  o_aload 0 <|
  o_getf [0] 1 <|
  o_getf [1] 0 <|
  o_iload 1 <|
  o_ald [103, 104, 105, 106, 107] <|
  o_callV [2] 1 (wX3_breathes E) (x_out Q) <|
  o_ifeq (bX0_breathes_31 E Q) <|
  o_push (.int 1) <|
  (bX0_breathes_32 E Q)
def bX0_breathes_0 (E : Nat → Value) (Q : Rs → HS → Prop) : Ct :=
  o_iload 1 <|
  o_call 1 (wX0_isRule E) (x_out Q) <|
  o_ifne (bX0_breathes_12 E Q) <|
  o_push (.int (-11)) <|
  (bX0_breathes_32 E Q)
def wX0_breathes (E : Nat → Value) : Wp := fun av h Q => match av with
  | [a0, a1] => bX0_breathes_0 E Q [a0, a1] [] h
  | _ => False
set_option maxHeartbeats 4000000 in
theorem tX0_breathes_32 {x : CX} {E : Nat → Value} {Q : Rs → HS → Prop} (EN : EX x E) (G : Gd x cX0_breathes "ChantRules" yX0_breathes 2 (Option.some Jvm.ClassFile.FieldType.int) Q) (hF : x.1.2.2.2.frames = 8 ∧ x.1.2.2.2.locals = 204) (hC : x.2.2.2.2.2 = (fun _ => false)) (hxt : (∀ z ∈ x.2.2.1.2.1.exceptionTable.toList, False)) : Snd x 32 (bX0_breathes_32 E Q) := by
  unfold bX0_breathes_32
  exact s_ireturn G dX0_breathes_32
set_option maxHeartbeats 4000000 in
theorem tX0_breathes_31 {x : CX} {E : Nat → Value} {Q : Rs → HS → Prop} (EN : EX x E) (G : Gd x cX0_breathes "ChantRules" yX0_breathes 2 (Option.some Jvm.ClassFile.FieldType.int) Q) (hF : x.1.2.2.2.frames = 8 ∧ x.1.2.2.2.locals = 204) (hC : x.2.2.2.2.2 = (fun _ => false)) (hxt : (∀ z ∈ x.2.2.1.2.1.exceptionTable.toList, False)) : Snd x 31 (bX0_breathes_31 E Q) := by
  unfold bX0_breathes_31
  refine s_iconst (by decide) G.b dX0_breathes_31 ?_
  exact (tX0_breathes_32 EN G hF hC hxt)
set_option maxHeartbeats 4000000 in
theorem tX0_breathes_12 {x : CX} {E : Nat → Value} {Q : Rs → HS → Prop} (EN : EX x E) (G : Gd x cX0_breathes "ChantRules" yX0_breathes 2 (Option.some Jvm.ClassFile.FieldType.int) Q) (hF : x.1.2.2.2.frames = 8 ∧ x.1.2.2.2.locals = 204) (hC : x.2.2.2.2.2 = (fun _ => false)) (hxt : (∀ z ∈ x.2.2.1.2.1.exceptionTable.toList, False)) : Snd x 12 (bX0_breathes_12 E Q) := by
  unfold bX0_breathes_12
  refine s_aload_n rfl G.b dX0_breathes_12 ?_
  refine s_getf G.b G.ow G.kn (G.hts _ q300) (fun _ h => h) fa_11 dX0_breathes_13 ?_
  refine s_getfN G.b G.ow G.kn (va_Nw.use rfl (va_Nw.warmF G.warm (EN.nw q194 rfl))) (fun _ h => h) fa_5 dX0_breathes_16 ?_
  refine s_iload_n rfl G.b dX0_breathes_19 ?_
  refine s_aald G.b G.kn dX0_breathes_20 ?_
  refine s_callV G (mX3_breathes EN) q1396 q1397 (sel_cons (r := (RX3, TX3, 3)) (by decide) rfl q1398 (sel_nil)) q79 q1399 nmk_134 (rm_of hF (Nat.le_of_ble_eq_true rfl) (Nat.le_of_ble_eq_true rfl)) dX0_breathes_21 ?_ (sx_out G (fun z hz => (hxt z hz).elim))
  refine s_ifeq (tgt := 31) G.b dX0_breathes_24 (by decide) (tX0_breathes_31 EN G hF hC hxt) ?_
  refine s_iconst (by decide) G.b dX0_breathes_27 ?_
  exact s_goto (tgt := 32) G.b dX0_breathes_28 (by decide) (tX0_breathes_32 EN G hF hC hxt)
set_option maxHeartbeats 4000000 in
theorem tX0_breathes_0 {x : CX} {E : Nat → Value} {Q : Rs → HS → Prop} (EN : EX x E) (G : Gd x cX0_breathes "ChantRules" yX0_breathes 2 (Option.some Jvm.ClassFile.FieldType.int) Q) (hF : x.1.2.2.2.frames = 8 ∧ x.1.2.2.2.locals = 204) (hC : x.2.2.2.2.2 = (fun _ => false)) (hxt : (∀ z ∈ x.2.2.1.2.1.exceptionTable.toList, False)) : Snd x 0 (bX0_breathes_0 E Q) := by
  unfold bX0_breathes_0
  refine s_iload_n rfl G.b dX0_breathes_0 ?_
  refine s_callS G (mX0_isRule EN) q336 q337 q76 q338 nmk_66 (rm_of hF (Nat.le_of_ble_eq_true rfl) (Nat.le_of_ble_eq_true rfl)) dX0_breathes_1 ?_ (sx_out G (fun z hz => (hxt z hz).elim))
  refine s_ifne (tgt := 12) G.b dX0_breathes_4 (by decide) (tX0_breathes_12 EN G hF hC hxt) ?_
  refine s_bipush (by decide) G.b dX0_breathes_7 ?_
  exact s_goto (tgt := 32) G.b dX0_breathes_9 (by decide) (tX0_breathes_32 EN G hF hC hxt)
set_option maxHeartbeats 4000000 in
theorem mX0_breathes {l : Launch} {D : DE} {s0 : State} {E : Nat → Value} (EN : EV l D s0 E) : rMet l D s0 yX0_breathes (ws_ yX0_breathes cX0_breathes 2 (Option.some Jvm.ClassFile.FieldType.int)) 8 204 (wX0_breathes E) := by
  refine body_met (fun _ => false) EN.kn (fun w h => h) (by decide +kernel) rfl (fun av h Q hw => ?_) ?_
  · unfold wX0_breathes at hw
    split at hw
    · exact Nat.le_of_ble_eq_true rfl
    · exact hw.elim
  · intro p e s m below meth c av h Q hxt G hw
    unfold wX0_breathes at hw
    split at hw
    · exact tX0_breathes_0 EN G ⟨rfl, rfl⟩ rfl hxt _ _ _ hw
    · exact hw.elim
/-! java/util/ArrayList.fastRemove([Ljava/lang/Object;I)V (J2_fastRemove) -/
def bJ2_fastRemove_34 (E : Nat → Value) (Q : Rs → HS → Prop) : Ct :=
  o_aload 1 <|
  o_aload 0 <|
  o_iload 3 <|
  o_dup_x1 <|
  o_putf [15] 2 .int <|
  o_push .null <|
  o_aast <|
  o_return Q
def bJ2_fastRemove_0 (E : Nat → Value) (Q : Rs → HS → Prop) : Ct :=
  o_aload 0 <|
  o_dup <|
  o_getf [14, 15] 0 <|
  o_push (.int 1) <|
  o_iadd <|
  o_putf [14, 15] 0 .int <|
  o_aload 0 <|
  o_getf [15] 2 <|
  o_push (.int 1) <|
  o_isub <|
  o_dup <|
  o_istore 3 <|
  o_iload 2 <|
  o_icmple (bJ2_fastRemove_34 E Q) <|
  o_aload 1 <|
  o_iload 2 <|
  o_push (.int 1) <|
  o_iadd <|
  o_aload 1 <|
  o_iload 2 <|
  o_iload 3 <|
  o_iload 2 <|
  o_isub <|
  o_acopy <|
  (bJ2_fastRemove_34 E Q)
def wJ2_fastRemove (E : Nat → Value) : Wp := fun av h Q => match av with
  | [a0, a1, a2] => bJ2_fastRemove_0 E Q [a0, a1, a2, jk] [] h
  | _ => False
set_option maxHeartbeats 4000000 in
theorem tJ2_fastRemove_34 {x : CX} {E : Nat → Value} {Q : Rs → HS → Prop} (EN : EX x E) (G : Gd x cJ2_fastRemove "java/util/ArrayList" yJ2_fastRemove 4 (Option.none : Option Jvm.ClassFile.FieldType) Q) (hF : x.1.2.2.2.frames = 8 ∧ x.1.2.2.2.locals = 200) (hC : x.2.2.2.2.2 = (fun _ => false)) (hxt : (∀ z ∈ x.2.2.1.2.1.exceptionTable.toList, False)) : Snd x 34 (bJ2_fastRemove_34 E Q) := by
  unfold bJ2_fastRemove_34
  refine s_aload_n rfl G.b dJ2_fastRemove_34 ?_
  refine s_aload_n rfl G.b dJ2_fastRemove_35 ?_
  refine s_iload_n rfl G.b dJ2_fastRemove_36 ?_
  refine s_dup_x1 G.b dJ2_fastRemove_37 ?_
  refine s_putf G.b G.ow G.kn (G.hts _ q161) (fun _ h => h) fa_21 (la_cons (r := (RJ2, TJ2, 3)) G.hts (by decide) rfl q170 (la_nil)) (by decide +kernel) dJ2_fastRemove_38 ?_
  refine s_null G.b dJ2_fastRemove_41 ?_
  refine s_aast G.b G.kn dJ2_fastRemove_42 ?_
  exact s_return G dJ2_fastRemove_43
set_option maxHeartbeats 4000000 in
theorem tJ2_fastRemove_0 {x : CX} {E : Nat → Value} {Q : Rs → HS → Prop} (EN : EX x E) (G : Gd x cJ2_fastRemove "java/util/ArrayList" yJ2_fastRemove 4 (Option.none : Option Jvm.ClassFile.FieldType) Q) (hF : x.1.2.2.2.frames = 8 ∧ x.1.2.2.2.locals = 200) (hC : x.2.2.2.2.2 = (fun _ => false)) (hxt : (∀ z ∈ x.2.2.1.2.1.exceptionTable.toList, False)) : Snd x 0 (bJ2_fastRemove_0 E Q) := by
  unfold bJ2_fastRemove_0
  refine s_aload_n rfl G.b dJ2_fastRemove_0 ?_
  refine s_dup G.b dJ2_fastRemove_1 ?_
  refine s_getf G.b G.ow G.kn (G.hts _ q167) (u_same (G.hts _ q164)) fa_0 dJ2_fastRemove_2 ?_
  refine s_iconst (by decide) G.b dJ2_fastRemove_5 ?_
  refine s_iadd G.b dJ2_fastRemove_6 ?_
  refine s_putf G.b G.ow G.kn (G.hts _ q167) (u_same (G.hts _ q164)) fa_0 (la_cons (r := (RJ19, TJ19, 4)) G.hts (by decide) rfl q1490 (la_cons (r := (RJ2, TJ2, 3)) G.hts (by decide) rfl q172 (la_nil))) (by decide +kernel) dJ2_fastRemove_7 ?_
  refine s_aload_n rfl G.b dJ2_fastRemove_10 ?_
  refine s_getf G.b G.ow G.kn (G.hts _ q161) (fun _ h => h) fa_21 dJ2_fastRemove_11 ?_
  refine s_iconst (by decide) G.b dJ2_fastRemove_14 ?_
  refine s_isub G.b dJ2_fastRemove_15 ?_
  refine s_dup G.b dJ2_fastRemove_16 ?_
  refine s_istore_n rfl G.b (by rw [G.nl]; decide) (fun _ _ => by rw [hC]) dJ2_fastRemove_17 ?_
  refine s_iload_n rfl G.b dJ2_fastRemove_18 ?_
  refine s_icmple (tgt := 34) G.b dJ2_fastRemove_19 (by decide) (tJ2_fastRemove_34 EN G hF hC hxt) ?_
  refine s_aload_n rfl G.b dJ2_fastRemove_22 ?_
  refine s_iload_n rfl G.b dJ2_fastRemove_23 ?_
  refine s_iconst (by decide) G.b dJ2_fastRemove_24 ?_
  refine s_iadd G.b dJ2_fastRemove_25 ?_
  refine s_aload_n rfl G.b dJ2_fastRemove_26 ?_
  refine s_iload_n rfl G.b dJ2_fastRemove_27 ?_
  refine s_iload_n rfl G.b dJ2_fastRemove_28 ?_
  refine s_iload_n rfl G.b dJ2_fastRemove_29 ?_
  refine s_isub G.b dJ2_fastRemove_30 ?_
  refine s_acopy EN G (rm_of hF (Nat.le_of_ble_eq_true rfl) (Nat.le_of_ble_eq_true rfl)) q808 dJ2_fastRemove_31 ?_
  exact (tJ2_fastRemove_34 EN G hF hC hxt)
set_option maxHeartbeats 4000000 in
theorem mJ2_fastRemove {l : Launch} {D : DE} {s0 : State} {E : Nat → Value} (EN : EV l D s0 E) : rMet l D s0 yJ2_fastRemove (ws_ yJ2_fastRemove cJ2_fastRemove 4 (Option.none : Option Jvm.ClassFile.FieldType)) 8 200 (wJ2_fastRemove E) := by
  refine body_met (fun _ => false) EN.kn (fun w h => h) (by decide +kernel) rfl (fun av h Q hw => ?_) ?_
  · unfold wJ2_fastRemove at hw
    split at hw
    · exact Nat.le_of_ble_eq_true rfl
    · exact hw.elim
  · intro p e s m below meth c av h Q hxt G hw
    unfold wJ2_fastRemove at hw
    split at hw
    · exact tJ2_fastRemove_0 EN G ⟨rfl, rfl⟩ rfl hxt _ _ _ hw
    · exact hw.elim
/-! java/util/ArrayList.remove(I)Ljava/lang/Object; (J2_remove) -/
theorem nmk_135 : nm_ok yJ2_fastRemove 2 := ⟨by decide +kernel, by decide +kernel, by decide +kernel⟩
def bJ2_remove_0 (E : Nat → Value) (Q : Rs → HS → Prop) : Ct :=
  o_iload 1 <|
  o_aload 0 <|
  o_getf [15] 2 <|
  o_call 2 (wJ15_checkIndex E) (x_out Q) <|
  o_pop <|
  o_aload 0 <|
  o_getf [15] 1 <|
  o_astore 2 <|
  o_aload 2 <|
  o_iload 1 <|
  o_ald [103, 104, 105, 106, 107] <|
  o_astore 3 <|
  o_aload 0 <|
  o_aload 2 <|
  o_iload 1 <|
  o_callV [15] 3 (wJ2_fastRemove E) (x_out Q) <|
  o_aload 3 <|
  o_areturn Q
def wJ2_remove (E : Nat → Value) : Wp := fun av h Q => match av with
  | [a0, a1] => bJ2_remove_0 E Q [a0, a1, jk, jk] [] h
  | _ => False
set_option maxHeartbeats 4000000 in
theorem tJ2_remove_0 {x : CX} {E : Nat → Value} {Q : Rs → HS → Prop} (EN : EX x E) (G : Gd x cJ2_remove "java/util/ArrayList" yJ2_remove 4 (Option.some (Jvm.ClassFile.FieldType.object "java/lang/Object")) Q) (hF : x.1.2.2.2.frames = 9 ∧ x.1.2.2.2.locals = 223) (hC : x.2.2.2.2.2 = (fun _ => false)) (hxt : (∀ z ∈ x.2.2.1.2.1.exceptionTable.toList, False)) : Snd x 0 (bJ2_remove_0 E Q) := by
  unfold bJ2_remove_0
  refine s_iload_n rfl G.b dJ2_remove_0 ?_
  refine s_aload_n rfl G.b dJ2_remove_1 ?_
  refine s_getf G.b G.ow G.kn (G.hts _ q161) (fun _ h => h) fa_21 dJ2_remove_2 ?_
  refine s_callS G (mJ15_checkIndex EN) q696 q697 q101 q698 nmk_75 (rm_of hF (Nat.le_of_ble_eq_true rfl) (Nat.le_of_ble_eq_true rfl)) dJ2_remove_5 ?_ (sx_out G (fun z hz => (hxt z hz).elim))
  refine s_pop G.b dJ2_remove_8 ?_
  refine s_aload_n rfl G.b dJ2_remove_9 ?_
  refine s_getf G.b G.ow G.kn (G.hts _ q158) (fun _ h => h) fa_1 dJ2_remove_10 ?_
  refine s_astore_n rfl G.b (by rw [G.nl]; decide) (fun _ _ => by rw [hC]) dJ2_remove_13 ?_
  refine s_aload_n rfl G.b dJ2_remove_14 ?_
  refine s_iload_n rfl G.b dJ2_remove_15 ?_
  refine s_aald G.b G.kn dJ2_remove_16 ?_
  refine s_astore_n rfl G.b (by rw [G.nl]; decide) (fun _ _ => by rw [hC]) dJ2_remove_17 ?_
  refine s_aload_n rfl G.b dJ2_remove_18 ?_
  refine s_aload_n rfl G.b dJ2_remove_19 ?_
  refine s_iload_n rfl G.b dJ2_remove_20 ?_
  refine s_callV G (mJ2_fastRemove EN) q804 q806 (sel_cons (r := (RJ2, TJ2, 3)) (by decide) rfl qs8 (sel_nil)) q82 q807 nmk_135 (rm_of hF (Nat.le_of_ble_eq_true rfl) (Nat.le_of_ble_eq_true rfl)) dJ2_remove_21 ?_ (sx_out G (fun z hz => (hxt z hz).elim))
  refine s_aload_n rfl G.b dJ2_remove_24 ?_
  exact s_areturn (Or.inl ⟨_, rfl⟩) G dJ2_remove_25
set_option maxHeartbeats 4000000 in
theorem mJ2_remove {l : Launch} {D : DE} {s0 : State} {E : Nat → Value} (EN : EV l D s0 E) : rMet l D s0 yJ2_remove (ws_ yJ2_remove cJ2_remove 4 (Option.some (Jvm.ClassFile.FieldType.object "java/lang/Object"))) 9 223 (wJ2_remove E) := by
  refine body_met (fun _ => false) EN.kn (fun w h => h) (by decide +kernel) rfl (fun av h Q hw => ?_) ?_
  · unfold wJ2_remove at hw
    split at hw
    · exact Nat.le_of_ble_eq_true rfl
    · exact hw.elim
  · intro p e s m below meth c av h Q hxt G hw
    unfold wJ2_remove at hw
    split at hw
    · exact tJ2_remove_0 EN G ⟨rfl, rfl⟩ rfl hxt _ _ _ hw
    · exact hw.elim
/-! java/util/ArrayList.set(ILjava/lang/Object;)Ljava/lang/Object; (J2_set) -/
def bJ2_set_0 (E : Nat → Value) (Q : Rs → HS → Prop) : Ct :=
  o_iload 1 <|
  o_aload 0 <|
  o_getf [15] 2 <|
  o_call 2 (wJ15_checkIndex E) (x_out Q) <|
  o_pop <|
  o_aload 0 <|
  o_iload 1 <|
  o_callV [15] 2 (wJ2_elementData E) (x_out Q) <|
  o_astore 3 <|
  o_aload 0 <|
  o_getf [15] 1 <|
  o_iload 1 <|
  o_aload 2 <|
  o_aast <|
  o_aload 3 <|
  o_areturn Q
def wJ2_set (E : Nat → Value) : Wp := fun av h Q => match av with
  | [a0, a1, a2] => bJ2_set_0 E Q [a0, a1, a2, jk] [] h
  | _ => False
set_option maxHeartbeats 4000000 in
theorem tJ2_set_0 {x : CX} {E : Nat → Value} {Q : Rs → HS → Prop} (EN : EX x E) (G : Gd x cJ2_set "java/util/ArrayList" yJ2_set 4 (Option.some (Jvm.ClassFile.FieldType.object "java/lang/Object")) Q) (hF : x.1.2.2.2.frames = 4 ∧ x.1.2.2.2.locals = 107) (hC : x.2.2.2.2.2 = (fun _ => false)) (hxt : (∀ z ∈ x.2.2.1.2.1.exceptionTable.toList, False)) : Snd x 0 (bJ2_set_0 E Q) := by
  unfold bJ2_set_0
  refine s_iload_n rfl G.b dJ2_set_0 ?_
  refine s_aload_n rfl G.b dJ2_set_1 ?_
  refine s_getf G.b G.ow G.kn (G.hts _ q161) (fun _ h => h) fa_21 dJ2_set_2 ?_
  refine s_callS G (mJ15_checkIndex EN) q696 q697 q101 q698 nmk_75 (rm_of hF (Nat.le_of_ble_eq_true rfl) (Nat.le_of_ble_eq_true rfl)) dJ2_set_5 ?_ (sx_out G (fun z hz => (hxt z hz).elim))
  refine s_pop G.b dJ2_set_8 ?_
  refine s_aload_n rfl G.b dJ2_set_9 ?_
  refine s_iload_n rfl G.b dJ2_set_10 ?_
  refine s_callV G (mJ2_elementData EN) q702 q703 (sel_cons (r := (RJ2, TJ2, 3)) (by decide) rfl q704 (sel_nil)) q82 q705 nmk_76 (rm_of hF (Nat.le_of_ble_eq_true rfl) (Nat.le_of_ble_eq_true rfl)) dJ2_set_11 ?_ (sx_out G (fun z hz => (hxt z hz).elim))
  refine s_astore_n rfl G.b (by rw [G.nl]; decide) (fun _ _ => by rw [hC]) dJ2_set_14 ?_
  refine s_aload_n rfl G.b dJ2_set_15 ?_
  refine s_getf G.b G.ow G.kn (G.hts _ q158) (fun _ h => h) fa_1 dJ2_set_16 ?_
  refine s_iload_n rfl G.b dJ2_set_19 ?_
  refine s_aload_n rfl G.b dJ2_set_20 ?_
  refine s_aast G.b G.kn dJ2_set_21 ?_
  refine s_aload_n rfl G.b dJ2_set_22 ?_
  exact s_areturn (Or.inl ⟨_, rfl⟩) G dJ2_set_23
set_option maxHeartbeats 4000000 in
theorem mJ2_set {l : Launch} {D : DE} {s0 : State} {E : Nat → Value} (EN : EV l D s0 E) : rMet l D s0 yJ2_set (ws_ yJ2_set cJ2_set 4 (Option.some (Jvm.ClassFile.FieldType.object "java/lang/Object"))) 4 107 (wJ2_set E) := by
  refine body_met (fun _ => false) EN.kn (fun w h => h) (by decide +kernel) rfl (fun av h Q hw => ?_) ?_
  · unfold wJ2_set at hw
    split at hw
    · exact Nat.le_of_ble_eq_true rfl
    · exact hw.elim
  · intro p e s m below meth c av h Q hxt G hw
    unfold wJ2_set at hw
    split at hw
    · exact tJ2_set_0 EN G ⟨rfl, rfl⟩ rfl hxt _ _ _ hw
    · exact hw.elim
/-! ChantRules$Rule.drops(I)I (X3_drops) -/
theorem nmk_136 : nm_ok yJ2_remove 1 := ⟨by decide +kernel, by decide +kernel, by decide +kernel⟩
theorem nmk_137 : nm_ok yJ2_set 2 := ⟨by decide +kernel, by decide +kernel, by decide +kernel⟩
def bX3_drops_46 (E : Nat → Value) (Q : Rs → HS → Prop) (X2 : Ct) : Ct :=
  o_aload 0 <|
  o_getf [2] 0 <|
  o_aload 0 <|
  o_getf [2] 0 <|
  o_callV [15] 1 (wJ2_size E) (x_out Q) <|
  o_push (.int 1) <|
  o_isub <|
  o_callV [15] 2 (wJ2_remove E) (x_out Q) <|
  o_cast [10, 11] <|
  o_astore 2 <|
  o_aload 0 <|
  o_getf [2] 0 <|
  o_callV [15] 1 (wJ2_size E) (x_out Q) <|
  o_ireturn .int Q
def bX3_drops_2 (E : Nat → Value) (Q : Rs → HS → Prop) (X2 : Ct) : Ct :=
  o_iload 2 <|
  o_push (.int 1) <|
  o_iadd <|
  o_aload 0 <|
  o_getf [2] 0 <|
  o_callV [15] 1 (wJ2_size E) (x_out Q) <|
  o_icmpge (bX3_drops_46 E Q X2) <|
  o_aload 0 <|
  o_getf [2] 0 <|
  o_iload 2 <|
  o_aload 0 <|
  o_getf [2] 0 <|
  o_iload 2 <|
  o_push (.int 1) <|
  o_iadd <|
  o_callV [15] 2 (wJ2_get E) (x_out Q) <|
  o_cast [10, 11] <|
  o_callV [15] 3 (wJ2_set E) (x_out Q) <|
  o_cast [10, 11] <|
  o_astore 3 <|
  o_iinc 2 1 <|
  X2
def bX3_drops_0 (E : Nat → Value) (Q : Rs → HS → Prop) (X2 : Ct) : Ct :=
  o_iload 1 <|
  o_istore 2 <|
  X2
def wX3_drops (E : Nat → Value) : Wp := fun av h Q => match av with
  | [a0, a1] => ∀ X2 : Ct, (∀ ls st h, bX3_drops_2 E Q X2 ls st h → X2 ls st h) → bX3_drops_0 E Q X2 [a0, a1, jk, jk] [] h
  | _ => False
set_option maxHeartbeats 4000000 in
theorem tX3_drops_46 {x : CX} {E : Nat → Value} {Q : Rs → HS → Prop} {X2 : Ct} (EN : EX x E) (G : Gd x cX3_drops "ChantRules$Rule" yX3_drops 4 (Option.some Jvm.ClassFile.FieldType.int) Q) (hF : x.1.2.2.2.frames = 10 ∧ x.1.2.2.2.locals = 246) (hC : x.2.2.2.2.2 = (fun _ => false)) (hxt : (∀ z ∈ x.2.2.1.2.1.exceptionTable.toList, False)) (h2 : Snd x 2 X2) : Snd x 46 (bX3_drops_46 E Q X2) := by
  unfold bX3_drops_46
  refine s_aload_n rfl G.b dX3_drops_46 ?_
  refine s_getf G.b G.ow G.kn (G.hts _ q175) (fun _ h => h) fa_3 dX3_drops_47 ?_
  refine s_aload_n rfl G.b dX3_drops_50 ?_
  refine s_getf G.b G.ow G.kn (G.hts _ q175) (fun _ h => h) fa_3 dX3_drops_51 ?_
  refine s_callV G (mJ2_size EN) q688 q689 (sel_cons (r := (RJ2, TJ2, 3)) (by decide) rfl q690 (sel_nil)) q82 q691 nmk_28 (rm_of hF (Nat.le_of_ble_eq_true rfl) (Nat.le_of_ble_eq_true rfl)) dX3_drops_54 ?_ (sx_out G (fun z hz => (hxt z hz).elim))
  refine s_iconst (by decide) G.b dX3_drops_57 ?_
  refine s_isub G.b dX3_drops_58 ?_
  refine s_callV G (mJ2_remove EN) q800 q801 (sel_cons (r := (RJ2, TJ2, 3)) (by decide) rfl q802 (sel_nil)) q82 q803 nmk_136 (rm_of hF (Nat.le_of_ble_eq_true rfl) (Nat.le_of_ble_eq_true rfl)) dX3_drops_59 ?_ (sx_out G (fun z hz => (hxt z hz).elim))
  refine s_cast G.b G.ow G.kn G.hts q400 ct_1 dX3_drops_62 ?_
  refine s_astore_n rfl G.b (by rw [G.nl]; decide) (fun _ _ => by rw [hC]) dX3_drops_65 ?_
  refine s_aload_n rfl G.b dX3_drops_66 ?_
  refine s_getf G.b G.ow G.kn (G.hts _ q175) (fun _ h => h) fa_3 dX3_drops_67 ?_
  refine s_callV G (mJ2_size EN) q688 q689 (sel_cons (r := (RJ2, TJ2, 3)) (by decide) rfl q690 (sel_nil)) q82 q691 nmk_28 (rm_of hF (Nat.le_of_ble_eq_true rfl) (Nat.le_of_ble_eq_true rfl)) dX3_drops_70 ?_ (sx_out G (fun z hz => (hxt z hz).elim))
  exact s_ireturn G dX3_drops_73
set_option maxHeartbeats 4000000 in
theorem tX3_drops_2 {x : CX} {E : Nat → Value} {Q : Rs → HS → Prop} {X2 : Ct} (EN : EX x E) (G : Gd x cX3_drops "ChantRules$Rule" yX3_drops 4 (Option.some Jvm.ClassFile.FieldType.int) Q) (hF : x.1.2.2.2.frames = 10 ∧ x.1.2.2.2.locals = 246) (hC : x.2.2.2.2.2 = (fun _ => false)) (hxt : (∀ z ∈ x.2.2.1.2.1.exceptionTable.toList, False)) (h2 : Snd x 2 X2) : Snd x 2 (bX3_drops_2 E Q X2) := by
  unfold bX3_drops_2
  refine s_iload_n rfl G.b dX3_drops_2 ?_
  refine s_iconst (by decide) G.b dX3_drops_3 ?_
  refine s_iadd G.b dX3_drops_4 ?_
  refine s_aload_n rfl G.b dX3_drops_5 ?_
  refine s_getf G.b G.ow G.kn (G.hts _ q175) (fun _ h => h) fa_3 dX3_drops_6 ?_
  refine s_callV G (mJ2_size EN) q688 q689 (sel_cons (r := (RJ2, TJ2, 3)) (by decide) rfl q690 (sel_nil)) q82 q691 nmk_28 (rm_of hF (Nat.le_of_ble_eq_true rfl) (Nat.le_of_ble_eq_true rfl)) dX3_drops_9 ?_ (sx_out G (fun z hz => (hxt z hz).elim))
  refine s_icmpge (tgt := 46) G.b dX3_drops_12 (by decide) (tX3_drops_46 EN G hF hC hxt h2) ?_
  refine s_aload_n rfl G.b dX3_drops_15 ?_
  refine s_getf G.b G.ow G.kn (G.hts _ q175) (fun _ h => h) fa_3 dX3_drops_16 ?_
  refine s_iload_n rfl G.b dX3_drops_19 ?_
  refine s_aload_n rfl G.b dX3_drops_20 ?_
  refine s_getf G.b G.ow G.kn (G.hts _ q175) (fun _ h => h) fa_3 dX3_drops_21 ?_
  refine s_iload_n rfl G.b dX3_drops_24 ?_
  refine s_iconst (by decide) G.b dX3_drops_25 ?_
  refine s_iadd G.b dX3_drops_26 ?_
  refine s_callV G (mJ2_get EN) q692 q693 (sel_cons (r := (RJ2, TJ2, 3)) (by decide) rfl q694 (sel_nil)) q82 q695 nmk_78 (rm_of hF (Nat.le_of_ble_eq_true rfl) (Nat.le_of_ble_eq_true rfl)) dX3_drops_27 ?_ (sx_out G (fun z hz => (hxt z hz).elim))
  refine s_cast G.b G.ow G.kn G.hts q400 ct_1 dX3_drops_30 ?_
  refine s_callV G (mJ2_set EN) q784 q785 (sel_cons (r := (RJ2, TJ2, 3)) (by decide) rfl q786 (sel_nil)) q82 q787 nmk_137 (rm_of hF (Nat.le_of_ble_eq_true rfl) (Nat.le_of_ble_eq_true rfl)) dX3_drops_33 ?_ (sx_out G (fun z hz => (hxt z hz).elim))
  refine s_cast G.b G.ow G.kn G.hts q400 ct_1 dX3_drops_36 ?_
  refine s_astore_n rfl G.b (by rw [G.nl]; decide) (fun _ _ => by rw [hC]) dX3_drops_39 ?_
  refine s_iinc (by decide) G.b (by rw [G.nl]; decide) (fun _ _ => by rw [hC]) dX3_drops_40 ?_
  exact s_goto (tgt := 2) G.b dX3_drops_43 (by decide) h2
set_option maxHeartbeats 4000000 in
theorem tX3_drops_0 {x : CX} {E : Nat → Value} {Q : Rs → HS → Prop} {X2 : Ct} (EN : EX x E) (G : Gd x cX3_drops "ChantRules$Rule" yX3_drops 4 (Option.some Jvm.ClassFile.FieldType.int) Q) (hF : x.1.2.2.2.frames = 10 ∧ x.1.2.2.2.locals = 246) (hC : x.2.2.2.2.2 = (fun _ => false)) (hxt : (∀ z ∈ x.2.2.1.2.1.exceptionTable.toList, False)) (h2 : Snd x 2 X2) : Snd x 0 (bX3_drops_0 E Q X2) := by
  unfold bX3_drops_0
  refine s_iload_n rfl G.b dX3_drops_0 ?_
  refine s_istore_n rfl G.b (by rw [G.nl]; decide) (fun _ _ => by rw [hC]) dX3_drops_1 ?_
  exact h2
set_option maxHeartbeats 4000000 in
theorem mX3_drops {l : Launch} {D : DE} {s0 : State} {E : Nat → Value} (EN : EV l D s0 E) : rMet l D s0 yX3_drops (ws_ yX3_drops cX3_drops 4 (Option.some Jvm.ClassFile.FieldType.int)) 10 246 (wX3_drops E) := by
  refine body_met (fun _ => false) EN.kn (fun w h => h) (by decide +kernel) rfl (fun av h Q hw => ?_) ?_
  · unfold wX3_drops at hw
    split at hw
    · exact Nat.le_of_ble_eq_true rfl
    · exact hw.elim
  · intro p e s m below meth c av h Q hxt G hw
    unfold wX3_drops at hw
    split at hw
    · exact tX3_drops_0 EN G ⟨rfl, rfl⟩ rfl hxt (fun _ _ _ h => h) _ _ _ (hw (AW _ 2) (tX3_drops_2 EN G ⟨rfl, rfl⟩ rfl hxt (fun _ _ _ h => h)))
    · exact hw.elim
/-! ChantRules$Choir.drops(II)I (X1_drops) -/
theorem nmk_138 : nm_ok yX3_drops 1 := ⟨by decide +kernel, by decide +kernel, by decide +kernel⟩
def bX1_drops_0 (E : Nat → Value) (Q : Rs → HS → Prop) : Ct :=
  o_aload 0 <|
  o_getf [1] 0 <|
  o_iload 1 <|
  o_ald [103, 104, 105, 106, 107] <|
  o_iload 2 <|
  o_callV [2] 2 (wX3_drops E) (x_out Q) <|
  o_istore 3 <|
  o_aload 0 <|
  o_dup <|
  o_getf [1] 2 <|
  o_push (.int 1) <|
  o_iadd <|
  o_putf [1] 2 .int <|
  o_iload 3 <|
  o_ireturn .int Q
def wX1_drops (E : Nat → Value) : Wp := fun av h Q => match av with
  | [a0, a1, a2] => bX1_drops_0 E Q [a0, a1, a2, jk] [] h
  | _ => False
set_option maxHeartbeats 4000000 in
theorem tX1_drops_0 {x : CX} {E : Nat → Value} {Q : Rs → HS → Prop} (EN : EX x E) (G : Gd x cX1_drops "ChantRules$Choir" yX1_drops 4 (Option.some Jvm.ClassFile.FieldType.int) Q) (hF : x.1.2.2.2.frames = 11 ∧ x.1.2.2.2.locals = 269) (hC : x.2.2.2.2.2 = (fun _ => false)) (hxt : (∀ z ∈ x.2.2.1.2.1.exceptionTable.toList, False)) : Snd x 0 (bX1_drops_0 E Q) := by
  unfold bX1_drops_0
  refine s_aload_n rfl G.b dX1_drops_0 ?_
  refine s_getf G.b G.ow G.kn (G.hts _ q192) (fun _ h => h) fa_5 dX1_drops_1 ?_
  refine s_iload_n rfl G.b dX1_drops_4 ?_
  refine s_aald G.b G.kn dX1_drops_5 ?_
  refine s_iload_n rfl G.b dX1_drops_6 ?_
  refine s_callV G (mX3_drops EN) q796 q797 (sel_cons (r := (RX3, TX3, 3)) (by decide) rfl q798 (sel_nil)) q79 q799 nmk_138 (rm_of hF (Nat.le_of_ble_eq_true rfl) (Nat.le_of_ble_eq_true rfl)) dX1_drops_7 ?_ (sx_out G (fun z hz => (hxt z hz).elim))
  refine s_istore_n rfl G.b (by rw [G.nl]; decide) (fun _ _ => by rw [hC]) dX1_drops_10 ?_
  refine s_aload_n rfl G.b dX1_drops_11 ?_
  refine s_dup G.b dX1_drops_12 ?_
  refine s_getf G.b G.ow G.kn (G.hts _ q197) (fun _ h => h) fa_27 dX1_drops_13 ?_
  refine s_iconst (by decide) G.b dX1_drops_16 ?_
  refine s_iadd G.b dX1_drops_17 ?_
  refine s_putf G.b G.ow G.kn (G.hts _ q197) (fun _ h => h) fa_27 (la_cons (r := (RX1, TX1, 4)) G.hts (by decide) rfl q205 (la_nil)) (by decide +kernel) dX1_drops_18 ?_
  refine s_iload_n rfl G.b dX1_drops_21 ?_
  exact s_ireturn G dX1_drops_22
set_option maxHeartbeats 4000000 in
theorem mX1_drops {l : Launch} {D : DE} {s0 : State} {E : Nat → Value} (EN : EV l D s0 E) : rMet l D s0 yX1_drops (ws_ yX1_drops cX1_drops 4 (Option.some Jvm.ClassFile.FieldType.int)) 11 269 (wX1_drops E) := by
  refine body_met (fun _ => false) EN.kn (fun w h => h) (by decide +kernel) rfl (fun av h Q hw => ?_) ?_
  · unfold wX1_drops at hw
    split at hw
    · exact Nat.le_of_ble_eq_true rfl
    · exact hw.elim
  · intro p e s m below meth c av h Q hxt G hw
    unfold wX1_drops at hw
    split at hw
    · exact tX1_drops_0 EN G ⟨rfl, rfl⟩ rfl hxt _ _ _ hw
    · exact hw.elim
/-! ChantRules.turned(LChantRules$Arc;)LChantRules$Arc; (X0_turned) -/
def bX0_turned_30 (E : Nat → Value) (Q : Rs → HS → Prop) : Ct :=
  o_call 5 (wX0_arcOf E) (x_out Q) <|
  o_areturn Q
def bX0_turned_24 (E : Nat → Value) (Q : Rs → HS → Prop) : Ct :=
  o_aload 0 <|
  o_vsel 1 [10] (o_callV [10] 1 (wX7_weight E) (x_out Q) (bX0_turned_30 E Q)) (o_callV [11] 1 (wX8_weight E) (x_out Q) (bX0_turned_30 E Q))
def bX0_turned_18 (E : Nat → Value) (Q : Rs → HS → Prop) : Ct :=
  o_aload 0 <|
  o_vsel 1 [10] (o_callV [10] 1 (wX7_hears E) (x_out Q) (bX0_turned_24 E Q)) (o_callV [11] 1 (wX8_hears E) (x_out Q) (bX0_turned_24 E Q))
def bX0_turned_12 (E : Nat → Value) (Q : Rs → HS → Prop) : Ct :=
  o_aload 0 <|
  o_vsel 1 [10] (o_callV [10] 1 (wX7_sings E) (x_out Q) (bX0_turned_18 E Q)) (o_callV [11] 1 (wX8_sings E) (x_out Q) (bX0_turned_18 E Q))
def bX0_turned_6 (E : Nat → Value) (Q : Rs → HS → Prop) : Ct :=
  o_aload 0 <|
  o_vsel 1 [10] (o_callV [10] 1 (wX7_to E) (x_out Q) (bX0_turned_12 E Q)) (o_callV [11] 1 (wX8_to E) (x_out Q) (bX0_turned_12 E Q))
def bX0_turned_0 (E : Nat → Value) (Q : Rs → HS → Prop) : Ct :=
  o_aload 0 <|
  o_vsel 1 [10] (o_callV [10] 1 (wX7_from E) (x_out Q) (bX0_turned_6 E Q)) (o_callV [11] 1 (wX8_from E) (x_out Q) (bX0_turned_6 E Q))
def wX0_turned (E : Nat → Value) : Wp := fun av h Q => match av with
  | [a0] => bX0_turned_0 E Q [a0] [] h
  | _ => False
set_option maxHeartbeats 4000000 in
theorem tX0_turned_30 {x : CX} {E : Nat → Value} {Q : Rs → HS → Prop} (EN : EX x E) (G : Gd x cX0_turned "ChantRules" yX0_turned 1 (Option.some (Jvm.ClassFile.FieldType.object "ChantRules$Arc")) Q) (hF : x.1.2.2.2.frames = 4 ∧ x.1.2.2.2.locals = 113) (hC : x.2.2.2.2.2 = (fun _ => false)) (hxt : (∀ z ∈ x.2.2.1.2.1.exceptionTable.toList, False)) : Snd x 30 (bX0_turned_30 E Q) := by
  unfold bX0_turned_30
  refine s_callS G (mX0_arcOf EN) q630 q631 q76 q632 nmk_83 (rm_of hF (Nat.le_of_ble_eq_true rfl) (Nat.le_of_ble_eq_true rfl)) dX0_turned_30 ?_ (sx_out G (fun z hz => (hxt z hz).elim))
  exact s_areturn (Or.inl ⟨_, rfl⟩) G dX0_turned_33
set_option maxHeartbeats 4000000 in
theorem tX0_turned_24 {x : CX} {E : Nat → Value} {Q : Rs → HS → Prop} (EN : EX x E) (G : Gd x cX0_turned "ChantRules" yX0_turned 1 (Option.some (Jvm.ClassFile.FieldType.object "ChantRules$Arc")) Q) (hF : x.1.2.2.2.frames = 4 ∧ x.1.2.2.2.locals = 113) (hC : x.2.2.2.2.2 = (fun _ => false)) (hxt : (∀ z ∈ x.2.2.1.2.1.exceptionTable.toList, False)) : Snd x 24 (bX0_turned_24 E Q) := by
  unfold bX0_turned_24
  refine s_aload_n rfl G.b dX0_turned_24 ?_
  exact (s_vsel (s_callF (r0 := (RX7, TX7, 4)) (w := ⟨"ChantRules$Arc", "weight", "()I"⟩) (by decide) rfl G (mX7_weight EN) q829 (va_Fw.moved (by decide +kernel) G.warm.alike ⟨(EN.nw q770 rfl), (EN.nw q769 rfl), (EN.nw q774 rfl), (EN.nw q772 rfl), (EN.nw q287 rfl)⟩) q771 q773 q99 q775 nmk_17 (rm_of hF (Nat.le_of_ble_eq_true rfl) (Nat.le_of_ble_eq_true rfl)) dX0_turned_25 (tX0_turned_30 EN G hF hC hxt) (sx_out G (fun z hz => (hxt z hz).elim)) ) (s_callF (r0 := (RX8, TX8, 5)) (w := ⟨"ChantRules$Arc", "weight", "()I"⟩) (by decide) rfl G (mX8_weight EN) q829 (va_Fw.moved (by decide +kernel) G.warm.alike ⟨(EN.nw q770 rfl), (EN.nw q769 rfl), (EN.nw q779 rfl), (EN.nw q777 rfl), (EN.nw q293 rfl)⟩) q776 q778 q100 q780 nmk_17 (rm_of hF (Nat.le_of_ble_eq_true rfl) (Nat.le_of_ble_eq_true rfl)) dX0_turned_25 (tX0_turned_30 EN G hF hC hxt) (sx_out G (fun z hz => (hxt z hz).elim)) ))
set_option maxHeartbeats 4000000 in
theorem tX0_turned_18 {x : CX} {E : Nat → Value} {Q : Rs → HS → Prop} (EN : EX x E) (G : Gd x cX0_turned "ChantRules" yX0_turned 1 (Option.some (Jvm.ClassFile.FieldType.object "ChantRules$Arc")) Q) (hF : x.1.2.2.2.frames = 4 ∧ x.1.2.2.2.locals = 113) (hC : x.2.2.2.2.2 = (fun _ => false)) (hxt : (∀ z ∈ x.2.2.1.2.1.exceptionTable.toList, False)) : Snd x 18 (bX0_turned_18 E Q) := by
  unfold bX0_turned_18
  refine s_aload_n rfl G.b dX0_turned_18 ?_
  exact (s_vsel (s_callF (r0 := (RX7, TX7, 4)) (w := ⟨"ChantRules$Arc", "hears", "()I"⟩) (by decide) rfl G (mX7_hears EN) q284 (va_Fw.moved (by decide +kernel) G.warm.alike ⟨(EN.nw q286 rfl), (EN.nw q285 rfl), (EN.nw q291 rfl), (EN.nw q289 rfl), (EN.nw q287 rfl)⟩) q288 q290 q99 q292 nmk_20 (rm_of hF (Nat.le_of_ble_eq_true rfl) (Nat.le_of_ble_eq_true rfl)) dX0_turned_19 (tX0_turned_24 EN G hF hC hxt) (sx_out G (fun z hz => (hxt z hz).elim)) ) (s_callF (r0 := (RX8, TX8, 5)) (w := ⟨"ChantRules$Arc", "hears", "()I"⟩) (by decide) rfl G (mX8_hears EN) q284 (va_Fw.moved (by decide +kernel) G.warm.alike ⟨(EN.nw q286 rfl), (EN.nw q285 rfl), (EN.nw q297 rfl), (EN.nw q295 rfl), (EN.nw q293 rfl)⟩) q294 q296 q100 q298 nmk_20 (rm_of hF (Nat.le_of_ble_eq_true rfl) (Nat.le_of_ble_eq_true rfl)) dX0_turned_19 (tX0_turned_24 EN G hF hC hxt) (sx_out G (fun z hz => (hxt z hz).elim)) ))
set_option maxHeartbeats 4000000 in
theorem tX0_turned_12 {x : CX} {E : Nat → Value} {Q : Rs → HS → Prop} (EN : EX x E) (G : Gd x cX0_turned "ChantRules" yX0_turned 1 (Option.some (Jvm.ClassFile.FieldType.object "ChantRules$Arc")) Q) (hF : x.1.2.2.2.frames = 4 ∧ x.1.2.2.2.locals = 113) (hC : x.2.2.2.2.2 = (fun _ => false)) (hxt : (∀ z ∈ x.2.2.1.2.1.exceptionTable.toList, False)) : Snd x 12 (bX0_turned_12 E Q) := by
  unfold bX0_turned_12
  refine s_aload_n rfl G.b dX0_turned_12 ?_
  exact (s_vsel (s_callF (r0 := (RX7, TX7, 4)) (w := ⟨"ChantRules$Arc", "sings", "()I"⟩) (by decide) rfl G (mX7_sings EN) q738 (va_Fw.moved (by decide +kernel) G.warm.alike ⟨(EN.nw q740 rfl), (EN.nw q739 rfl), (EN.nw q744 rfl), (EN.nw q742 rfl), (EN.nw q287 rfl)⟩) q741 q743 q99 q745 nmk_68 (rm_of hF (Nat.le_of_ble_eq_true rfl) (Nat.le_of_ble_eq_true rfl)) dX0_turned_13 (tX0_turned_18 EN G hF hC hxt) (sx_out G (fun z hz => (hxt z hz).elim)) ) (s_callF (r0 := (RX8, TX8, 5)) (w := ⟨"ChantRules$Arc", "sings", "()I"⟩) (by decide) rfl G (mX8_sings EN) q738 (va_Fw.moved (by decide +kernel) G.warm.alike ⟨(EN.nw q740 rfl), (EN.nw q739 rfl), (EN.nw q749 rfl), (EN.nw q747 rfl), (EN.nw q293 rfl)⟩) q746 q748 q100 q750 nmk_68 (rm_of hF (Nat.le_of_ble_eq_true rfl) (Nat.le_of_ble_eq_true rfl)) dX0_turned_13 (tX0_turned_18 EN G hF hC hxt) (sx_out G (fun z hz => (hxt z hz).elim)) ))
set_option maxHeartbeats 4000000 in
theorem tX0_turned_6 {x : CX} {E : Nat → Value} {Q : Rs → HS → Prop} (EN : EX x E) (G : Gd x cX0_turned "ChantRules" yX0_turned 1 (Option.some (Jvm.ClassFile.FieldType.object "ChantRules$Arc")) Q) (hF : x.1.2.2.2.frames = 4 ∧ x.1.2.2.2.locals = 113) (hC : x.2.2.2.2.2 = (fun _ => false)) (hxt : (∀ z ∈ x.2.2.1.2.1.exceptionTable.toList, False)) : Snd x 6 (bX0_turned_6 E Q) := by
  unfold bX0_turned_6
  refine s_aload_n rfl G.b dX0_turned_6 ?_
  exact (s_vsel (s_callF (r0 := (RX7, TX7, 4)) (w := ⟨"ChantRules$Arc", "to", "()I"⟩) (by decide) rfl G (mX7_to EN) q724 (va_Fw.moved (by decide +kernel) G.warm.alike ⟨(EN.nw q726 rfl), (EN.nw q725 rfl), (EN.nw q730 rfl), (EN.nw q728 rfl), (EN.nw q287 rfl)⟩) q727 q729 q99 q731 nmk_69 (rm_of hF (Nat.le_of_ble_eq_true rfl) (Nat.le_of_ble_eq_true rfl)) dX0_turned_7 (tX0_turned_12 EN G hF hC hxt) (sx_out G (fun z hz => (hxt z hz).elim)) ) (s_callF (r0 := (RX8, TX8, 5)) (w := ⟨"ChantRules$Arc", "to", "()I"⟩) (by decide) rfl G (mX8_to EN) q724 (va_Fw.moved (by decide +kernel) G.warm.alike ⟨(EN.nw q726 rfl), (EN.nw q725 rfl), (EN.nw q735 rfl), (EN.nw q733 rfl), (EN.nw q293 rfl)⟩) q732 q734 q100 q736 nmk_69 (rm_of hF (Nat.le_of_ble_eq_true rfl) (Nat.le_of_ble_eq_true rfl)) dX0_turned_7 (tX0_turned_12 EN G hF hC hxt) (sx_out G (fun z hz => (hxt z hz).elim)) ))
set_option maxHeartbeats 4000000 in
theorem tX0_turned_0 {x : CX} {E : Nat → Value} {Q : Rs → HS → Prop} (EN : EX x E) (G : Gd x cX0_turned "ChantRules" yX0_turned 1 (Option.some (Jvm.ClassFile.FieldType.object "ChantRules$Arc")) Q) (hF : x.1.2.2.2.frames = 4 ∧ x.1.2.2.2.locals = 113) (hC : x.2.2.2.2.2 = (fun _ => false)) (hxt : (∀ z ∈ x.2.2.1.2.1.exceptionTable.toList, False)) : Snd x 0 (bX0_turned_0 E Q) := by
  unfold bX0_turned_0
  refine s_aload_n rfl G.b dX0_turned_0 ?_
  exact (s_vsel (s_callF (r0 := (RX7, TX7, 4)) (w := ⟨"ChantRules$Arc", "from", "()I"⟩) (by decide) rfl G (mX7_from EN) q710 (va_Fw.moved (by decide +kernel) G.warm.alike ⟨(EN.nw q712 rfl), (EN.nw q711 rfl), (EN.nw q716 rfl), (EN.nw q714 rfl), (EN.nw q287 rfl)⟩) q713 q715 q99 q717 nmk_70 (rm_of hF (Nat.le_of_ble_eq_true rfl) (Nat.le_of_ble_eq_true rfl)) dX0_turned_1 (tX0_turned_6 EN G hF hC hxt) (sx_out G (fun z hz => (hxt z hz).elim)) ) (s_callF (r0 := (RX8, TX8, 5)) (w := ⟨"ChantRules$Arc", "from", "()I"⟩) (by decide) rfl G (mX8_from EN) q710 (va_Fw.moved (by decide +kernel) G.warm.alike ⟨(EN.nw q712 rfl), (EN.nw q711 rfl), (EN.nw q721 rfl), (EN.nw q719 rfl), (EN.nw q293 rfl)⟩) q718 q720 q100 q722 nmk_70 (rm_of hF (Nat.le_of_ble_eq_true rfl) (Nat.le_of_ble_eq_true rfl)) dX0_turned_1 (tX0_turned_6 EN G hF hC hxt) (sx_out G (fun z hz => (hxt z hz).elim)) ))
set_option maxHeartbeats 4000000 in
theorem mX0_turned {l : Launch} {D : DE} {s0 : State} {E : Nat → Value} (EN : EV l D s0 E) : rMet l D s0 yX0_turned (ws_ yX0_turned cX0_turned 1 (Option.some (Jvm.ClassFile.FieldType.object "ChantRules$Arc"))) 4 113 (wX0_turned E) := by
  refine body_met (fun _ => false) EN.kn (fun w h => h) (by decide +kernel) rfl (fun av h Q hw => ?_) ?_
  · unfold wX0_turned at hw
    split at hw
    · exact Nat.le_of_ble_eq_true rfl
    · exact hw.elim
  · intro p e s m below meth c av h Q hxt G hw
    unfold wX0_turned at hw
    split at hw
    · exact tX0_turned_0 EN G ⟨rfl, rfl⟩ rfl hxt _ _ _ hw
    · exact hw.elim
/-! ChantRules$Rule.turns()I (X3_turns) -/
theorem nmk_139 : nm_ok yX0_turned 1 := ⟨by decide +kernel, by decide +kernel, by decide +kernel⟩
def bX3_turns_120 (E : Nat → Value) (Q : Rs → HS → Prop) (X10 X77 : Ct) : Ct :=
  o_iload 1 <|
  o_ireturn .int Q
def bX3_turns_77 (E : Nat → Value) (Q : Rs → HS → Prop) (X10 X77 : Ct) : Ct :=
  o_iload 2 <|
  o_aload 0 <|
  o_getf [2] 0 <|
  o_callV [15] 1 (wJ2_size E) (x_out Q) <|
  o_icmpge (bX3_turns_120 E Q X10 X77) <|
  o_aload 0 <|
  o_getf [2] 0 <|
  o_iload 2 <|
  o_aload 0 <|
  o_getf [2] 0 <|
  o_iload 2 <|
  o_callV [15] 2 (wJ2_get E) (x_out Q) <|
  o_cast [10, 11] <|
  o_call 1 (wX0_turned E) (x_out Q) <|
  o_callV [15] 3 (wJ2_set E) (x_out Q) <|
  o_cast [10, 11] <|
  o_astore 3 <|
  o_iinc 2 1 <|
  X77
def bX3_turns_64 (E : Nat → Value) (Q : Rs → HS → Prop) (X10 X77 : Ct) : Ct :=
  o_push (.int 4) <|
  o_aload 0 <|
  o_getf [2] 0 <|
  o_callV [15] 1 (wJ2_size E) (x_out Q) <|
  o_call 3 (wX0_refuse E) (x_out Q) <|
  o_push (.int 0) <|
  o_istore 2 <|
  X77
def bX3_turns_63 (E : Nat → Value) (Q : Rs → HS → Prop) (X10 X77 : Ct) : Ct :=
  o_push (.int 0) <|
  (bX3_turns_64 E Q X10 X77)
def bX3_turns_55 (E : Nat → Value) (Q : Rs → HS → Prop) (X10 X77 : Ct) : Ct :=
  o_iload 1 <|
  o_ifne (bX3_turns_63 E Q X10 X77) <|
  o_push (.int 1) <|
  (bX3_turns_64 E Q X10 X77)
def bX3_turns_50 (E : Nat → Value) (Q : Rs → HS → Prop) (X10 X77 : Ct) : Ct :=
  o_iadd <|
  o_istore 1 <|
  X10
def bX3_turns_49 (E : Nat → Value) (Q : Rs → HS → Prop) (X10 X77 : Ct) : Ct :=
  o_push (.int 1) <|
  (bX3_turns_50 E Q X10 X77)
def bX3_turns_42 (E : Nat → Value) (Q : Rs → HS → Prop) (X10 X77 : Ct) : Ct :=
  o_icmpne (bX3_turns_49 E Q X10 X77) <|
  o_push (.int 0) <|
  (bX3_turns_50 E Q X10 X77)
def bX3_turns_36 (E : Nat → Value) (Q : Rs → HS → Prop) (X10 X77 : Ct) : Ct :=
  o_aload 3 <|
  o_vsel 1 [10] (o_callV [10] 1 (wX7_sings E) (x_out Q) (bX3_turns_42 E Q X10 X77)) (o_callV [11] 1 (wX8_sings E) (x_out Q) (bX3_turns_42 E Q X10 X77))
def bX3_turns_10 (E : Nat → Value) (Q : Rs → HS → Prop) (X10 X77 : Ct) : Ct :=
  o_aload 2 <|
  o_callV [20] 1 (wJ9_hasNext E) (x_out Q) <|
  o_ifeq (bX3_turns_55 E Q X10 X77) <|
  o_aload 2 <|
  o_callV [20] 1 (wJ9_next E) (x_out Q) <|
  o_cast [10, 11] <|
  o_astore 3 <|
  o_iload 1 <|
  o_aload 3 <|
  o_vsel 1 [10] (o_callV [10] 1 (wX7_hears E) (x_out Q) (bX3_turns_36 E Q X10 X77)) (o_callV [11] 1 (wX8_hears E) (x_out Q) (bX3_turns_36 E Q X10 X77))
def bX3_turns_0 (E : Nat → Value) (Q : Rs → HS → Prop) (X10 X77 : Ct) : Ct :=
  o_push (.int 0) <|
  o_istore 1 <|
  o_aload 0 <|
  o_getf [2] 0 <|
  o_callV [15] 1 (wJ2_iterator E) (x_out Q) <|
  o_astore 2 <|
  X10
def wX3_turns (E : Nat → Value) : Wp := fun av h Q => match av with
  | [a0] => ∀ X10 X77 : Ct, (∀ ls st h, bX3_turns_10 E Q X10 X77 ls st h → X10 ls st h) → (∀ ls st h, bX3_turns_77 E Q X10 X77 ls st h → X77 ls st h) → bX3_turns_0 E Q X10 X77 [a0, jk, jk, jk] [] h
  | _ => False
set_option maxHeartbeats 4000000 in
theorem tX3_turns_120 {x : CX} {E : Nat → Value} {Q : Rs → HS → Prop} {X10 X77 : Ct} (EN : EX x E) (G : Gd x cX3_turns "ChantRules$Rule" yX3_turns 4 (Option.some Jvm.ClassFile.FieldType.int) Q) (hF : x.1.2.2.2.frames = 7 ∧ x.1.2.2.2.locals = 179) (hC : x.2.2.2.2.2 = (fun _ => false)) (hxt : (∀ z ∈ x.2.2.1.2.1.exceptionTable.toList, False)) (h10 : Snd x 10 X10) (h77 : Snd x 77 X77) : Snd x 120 (bX3_turns_120 E Q X10 X77) := by
  unfold bX3_turns_120
  refine s_iload_n rfl G.b dX3_turns_120 ?_
  exact s_ireturn G dX3_turns_121
set_option maxHeartbeats 4000000 in
theorem tX3_turns_77 {x : CX} {E : Nat → Value} {Q : Rs → HS → Prop} {X10 X77 : Ct} (EN : EX x E) (G : Gd x cX3_turns "ChantRules$Rule" yX3_turns 4 (Option.some Jvm.ClassFile.FieldType.int) Q) (hF : x.1.2.2.2.frames = 7 ∧ x.1.2.2.2.locals = 179) (hC : x.2.2.2.2.2 = (fun _ => false)) (hxt : (∀ z ∈ x.2.2.1.2.1.exceptionTable.toList, False)) (h10 : Snd x 10 X10) (h77 : Snd x 77 X77) : Snd x 77 (bX3_turns_77 E Q X10 X77) := by
  unfold bX3_turns_77
  refine s_iload_n rfl G.b dX3_turns_77 ?_
  refine s_aload_n rfl G.b dX3_turns_78 ?_
  refine s_getf G.b G.ow G.kn (G.hts _ q175) (fun _ h => h) fa_3 dX3_turns_79 ?_
  refine s_callV G (mJ2_size EN) q688 q689 (sel_cons (r := (RJ2, TJ2, 3)) (by decide) rfl q690 (sel_nil)) q82 q691 nmk_28 (rm_of hF (Nat.le_of_ble_eq_true rfl) (Nat.le_of_ble_eq_true rfl)) dX3_turns_82 ?_ (sx_out G (fun z hz => (hxt z hz).elim))
  refine s_icmpge (tgt := 120) G.b dX3_turns_85 (by decide) (tX3_turns_120 EN G hF hC hxt h10 h77) ?_
  refine s_aload_n rfl G.b dX3_turns_88 ?_
  refine s_getf G.b G.ow G.kn (G.hts _ q175) (fun _ h => h) fa_3 dX3_turns_89 ?_
  refine s_iload_n rfl G.b dX3_turns_92 ?_
  refine s_aload_n rfl G.b dX3_turns_93 ?_
  refine s_getf G.b G.ow G.kn (G.hts _ q175) (fun _ h => h) fa_3 dX3_turns_94 ?_
  refine s_iload_n rfl G.b dX3_turns_97 ?_
  refine s_callV G (mJ2_get EN) q692 q693 (sel_cons (r := (RJ2, TJ2, 3)) (by decide) rfl q694 (sel_nil)) q82 q695 nmk_78 (rm_of hF (Nat.le_of_ble_eq_true rfl) (Nat.le_of_ble_eq_true rfl)) dX3_turns_98 ?_ (sx_out G (fun z hz => (hxt z hz).elim))
  refine s_cast G.b G.ow G.kn G.hts q400 ct_1 dX3_turns_101 ?_
  refine s_callSN G (mX0_turned EN) (va_Nw.use rfl (va_Nw.warmM G.warm (EN.nw q825 rfl))) q826 q76 q827 nmk_139 (rm_of hF (Nat.le_of_ble_eq_true rfl) (Nat.le_of_ble_eq_true rfl)) dX3_turns_104 ?_ (sx_out G (fun z hz => (hxt z hz).elim))
  refine s_callV G (mJ2_set EN) q784 q785 (sel_cons (r := (RJ2, TJ2, 3)) (by decide) rfl q786 (sel_nil)) q82 q787 nmk_137 (rm_of hF (Nat.le_of_ble_eq_true rfl) (Nat.le_of_ble_eq_true rfl)) dX3_turns_107 ?_ (sx_out G (fun z hz => (hxt z hz).elim))
  refine s_cast G.b G.ow G.kn G.hts q400 ct_1 dX3_turns_110 ?_
  refine s_astore_n rfl G.b (by rw [G.nl]; decide) (fun _ _ => by rw [hC]) dX3_turns_113 ?_
  refine s_iinc (by decide) G.b (by rw [G.nl]; decide) (fun _ _ => by rw [hC]) dX3_turns_114 ?_
  exact s_goto (tgt := 77) G.b dX3_turns_117 (by decide) h77
set_option maxHeartbeats 4000000 in
theorem tX3_turns_64 {x : CX} {E : Nat → Value} {Q : Rs → HS → Prop} {X10 X77 : Ct} (EN : EX x E) (G : Gd x cX3_turns "ChantRules$Rule" yX3_turns 4 (Option.some Jvm.ClassFile.FieldType.int) Q) (hF : x.1.2.2.2.frames = 7 ∧ x.1.2.2.2.locals = 179) (hC : x.2.2.2.2.2 = (fun _ => false)) (hxt : (∀ z ∈ x.2.2.1.2.1.exceptionTable.toList, False)) (h10 : Snd x 10 X10) (h77 : Snd x 77 X77) : Snd x 64 (bX3_turns_64 E Q X10 X77) := by
  unfold bX3_turns_64
  refine s_iconst (by decide) G.b dX3_turns_64 ?_
  refine s_aload_n rfl G.b dX3_turns_65 ?_
  refine s_getf G.b G.ow G.kn (G.hts _ q175) (fun _ h => h) fa_3 dX3_turns_66 ?_
  refine s_callV G (mJ2_size EN) q688 q689 (sel_cons (r := (RJ2, TJ2, 3)) (by decide) rfl q690 (sel_nil)) q82 q691 nmk_28 (rm_of hF (Nat.le_of_ble_eq_true rfl) (Nat.le_of_ble_eq_true rfl)) dX3_turns_69 ?_ (sx_out G (fun z hz => (hxt z hz).elim))
  refine s_callSN G (mX0_refuse EN) (va_Nw.use rfl (va_Nw.warmM G.warm (EN.nw q474 rfl))) q475 q76 q476 nmk_77 (rm_of hF (Nat.le_of_ble_eq_true rfl) (Nat.le_of_ble_eq_true rfl)) dX3_turns_72 ?_ (sx_out G (fun z hz => (hxt z hz).elim))
  refine s_iconst (by decide) G.b dX3_turns_75 ?_
  refine s_istore_n rfl G.b (by rw [G.nl]; decide) (fun _ _ => by rw [hC]) dX3_turns_76 ?_
  exact h77
set_option maxHeartbeats 4000000 in
theorem tX3_turns_63 {x : CX} {E : Nat → Value} {Q : Rs → HS → Prop} {X10 X77 : Ct} (EN : EX x E) (G : Gd x cX3_turns "ChantRules$Rule" yX3_turns 4 (Option.some Jvm.ClassFile.FieldType.int) Q) (hF : x.1.2.2.2.frames = 7 ∧ x.1.2.2.2.locals = 179) (hC : x.2.2.2.2.2 = (fun _ => false)) (hxt : (∀ z ∈ x.2.2.1.2.1.exceptionTable.toList, False)) (h10 : Snd x 10 X10) (h77 : Snd x 77 X77) : Snd x 63 (bX3_turns_63 E Q X10 X77) := by
  unfold bX3_turns_63
  refine s_iconst (by decide) G.b dX3_turns_63 ?_
  exact (tX3_turns_64 EN G hF hC hxt h10 h77)
set_option maxHeartbeats 4000000 in
theorem tX3_turns_55 {x : CX} {E : Nat → Value} {Q : Rs → HS → Prop} {X10 X77 : Ct} (EN : EX x E) (G : Gd x cX3_turns "ChantRules$Rule" yX3_turns 4 (Option.some Jvm.ClassFile.FieldType.int) Q) (hF : x.1.2.2.2.frames = 7 ∧ x.1.2.2.2.locals = 179) (hC : x.2.2.2.2.2 = (fun _ => false)) (hxt : (∀ z ∈ x.2.2.1.2.1.exceptionTable.toList, False)) (h10 : Snd x 10 X10) (h77 : Snd x 77 X77) : Snd x 55 (bX3_turns_55 E Q X10 X77) := by
  unfold bX3_turns_55
  refine s_iload_n rfl G.b dX3_turns_55 ?_
  refine s_ifne (tgt := 63) G.b dX3_turns_56 (by decide) (tX3_turns_63 EN G hF hC hxt h10 h77) ?_
  refine s_iconst (by decide) G.b dX3_turns_59 ?_
  exact s_goto (tgt := 64) G.b dX3_turns_60 (by decide) (tX3_turns_64 EN G hF hC hxt h10 h77)
set_option maxHeartbeats 4000000 in
theorem tX3_turns_50 {x : CX} {E : Nat → Value} {Q : Rs → HS → Prop} {X10 X77 : Ct} (EN : EX x E) (G : Gd x cX3_turns "ChantRules$Rule" yX3_turns 4 (Option.some Jvm.ClassFile.FieldType.int) Q) (hF : x.1.2.2.2.frames = 7 ∧ x.1.2.2.2.locals = 179) (hC : x.2.2.2.2.2 = (fun _ => false)) (hxt : (∀ z ∈ x.2.2.1.2.1.exceptionTable.toList, False)) (h10 : Snd x 10 X10) (h77 : Snd x 77 X77) : Snd x 50 (bX3_turns_50 E Q X10 X77) := by
  unfold bX3_turns_50
  refine s_iadd G.b dX3_turns_50 ?_
  refine s_istore_n rfl G.b (by rw [G.nl]; decide) (fun _ _ => by rw [hC]) dX3_turns_51 ?_
  exact s_goto (tgt := 10) G.b dX3_turns_52 (by decide) h10
set_option maxHeartbeats 4000000 in
theorem tX3_turns_49 {x : CX} {E : Nat → Value} {Q : Rs → HS → Prop} {X10 X77 : Ct} (EN : EX x E) (G : Gd x cX3_turns "ChantRules$Rule" yX3_turns 4 (Option.some Jvm.ClassFile.FieldType.int) Q) (hF : x.1.2.2.2.frames = 7 ∧ x.1.2.2.2.locals = 179) (hC : x.2.2.2.2.2 = (fun _ => false)) (hxt : (∀ z ∈ x.2.2.1.2.1.exceptionTable.toList, False)) (h10 : Snd x 10 X10) (h77 : Snd x 77 X77) : Snd x 49 (bX3_turns_49 E Q X10 X77) := by
  unfold bX3_turns_49
  refine s_iconst (by decide) G.b dX3_turns_49 ?_
  exact (tX3_turns_50 EN G hF hC hxt h10 h77)
set_option maxHeartbeats 4000000 in
theorem tX3_turns_42 {x : CX} {E : Nat → Value} {Q : Rs → HS → Prop} {X10 X77 : Ct} (EN : EX x E) (G : Gd x cX3_turns "ChantRules$Rule" yX3_turns 4 (Option.some Jvm.ClassFile.FieldType.int) Q) (hF : x.1.2.2.2.frames = 7 ∧ x.1.2.2.2.locals = 179) (hC : x.2.2.2.2.2 = (fun _ => false)) (hxt : (∀ z ∈ x.2.2.1.2.1.exceptionTable.toList, False)) (h10 : Snd x 10 X10) (h77 : Snd x 77 X77) : Snd x 42 (bX3_turns_42 E Q X10 X77) := by
  unfold bX3_turns_42
  refine s_icmpne (tgt := 49) G.b dX3_turns_42 (by decide) (tX3_turns_49 EN G hF hC hxt h10 h77) ?_
  refine s_iconst (by decide) G.b dX3_turns_45 ?_
  exact s_goto (tgt := 50) G.b dX3_turns_46 (by decide) (tX3_turns_50 EN G hF hC hxt h10 h77)
set_option maxHeartbeats 4000000 in
theorem tX3_turns_36 {x : CX} {E : Nat → Value} {Q : Rs → HS → Prop} {X10 X77 : Ct} (EN : EX x E) (G : Gd x cX3_turns "ChantRules$Rule" yX3_turns 4 (Option.some Jvm.ClassFile.FieldType.int) Q) (hF : x.1.2.2.2.frames = 7 ∧ x.1.2.2.2.locals = 179) (hC : x.2.2.2.2.2 = (fun _ => false)) (hxt : (∀ z ∈ x.2.2.1.2.1.exceptionTable.toList, False)) (h10 : Snd x 10 X10) (h77 : Snd x 77 X77) : Snd x 36 (bX3_turns_36 E Q X10 X77) := by
  unfold bX3_turns_36
  refine s_aload_n rfl G.b dX3_turns_36 ?_
  exact (s_vsel (s_callF (r0 := (RX7, TX7, 4)) (w := ⟨"ChantRules$Arc", "sings", "()I"⟩) (by decide) rfl G (mX7_sings EN) q824 (va_Fw.moved (by decide +kernel) G.warm.alike ⟨(EN.nw q740 rfl), (EN.nw q739 rfl), (EN.nw q744 rfl), (EN.nw q742 rfl), (EN.nw q287 rfl)⟩) q741 q743 q99 q745 nmk_68 (rm_of hF (Nat.le_of_ble_eq_true rfl) (Nat.le_of_ble_eq_true rfl)) dX3_turns_37 (tX3_turns_42 EN G hF hC hxt h10 h77) (sx_out G (fun z hz => (hxt z hz).elim)) ) (s_callF (r0 := (RX8, TX8, 5)) (w := ⟨"ChantRules$Arc", "sings", "()I"⟩) (by decide) rfl G (mX8_sings EN) q824 (va_Fw.moved (by decide +kernel) G.warm.alike ⟨(EN.nw q740 rfl), (EN.nw q739 rfl), (EN.nw q749 rfl), (EN.nw q747 rfl), (EN.nw q293 rfl)⟩) q746 q748 q100 q750 nmk_68 (rm_of hF (Nat.le_of_ble_eq_true rfl) (Nat.le_of_ble_eq_true rfl)) dX3_turns_37 (tX3_turns_42 EN G hF hC hxt h10 h77) (sx_out G (fun z hz => (hxt z hz).elim)) ))
set_option maxHeartbeats 4000000 in
theorem tX3_turns_10 {x : CX} {E : Nat → Value} {Q : Rs → HS → Prop} {X10 X77 : Ct} (EN : EX x E) (G : Gd x cX3_turns "ChantRules$Rule" yX3_turns 4 (Option.some Jvm.ClassFile.FieldType.int) Q) (hF : x.1.2.2.2.frames = 7 ∧ x.1.2.2.2.locals = 179) (hC : x.2.2.2.2.2 = (fun _ => false)) (hxt : (∀ z ∈ x.2.2.1.2.1.exceptionTable.toList, False)) (h10 : Snd x 10 X10) (h77 : Snd x 77 X77) : Snd x 10 (bX3_turns_10 E Q X10 X77) := by
  unfold bX3_turns_10
  refine s_aload_n rfl G.b dX3_turns_10 ?_
  refine s_callF (r0 := (RJ9, TJ9, 4)) (w := ⟨"java/util/Iterator", "hasNext", "()Z"⟩) (by decide) rfl G (mJ9_hasNext EN) q378 (va_Fw.moved (by decide +kernel) G.warm.alike ⟨(EN.nw q380 rfl), (EN.nw q379 rfl), (EN.nw q385 rfl), (EN.nw q383 rfl), (EN.nw q381 rfl)⟩) q382 q384 q91 q386 nmk_15 (rm_of hF (Nat.le_of_ble_eq_true rfl) (Nat.le_of_ble_eq_true rfl)) dX3_turns_11 ?_ (sx_out G (fun z hz => (hxt z hz).elim))
  refine s_ifeq (tgt := 55) G.b dX3_turns_16 (by decide) (tX3_turns_55 EN G hF hC hxt h10 h77) ?_
  refine s_aload_n rfl G.b dX3_turns_19 ?_
  refine s_callF (r0 := (RJ9, TJ9, 4)) (w := ⟨"java/util/Iterator", "next", "()Ljava/lang/Object;"⟩) (by decide) rfl G (mJ9_next EN) q388 (va_Fw.moved (by decide +kernel) G.warm.alike ⟨(EN.nw q390 rfl), (EN.nw q389 rfl), (EN.nw q394 rfl), (EN.nw q392 rfl), (EN.nw q381 rfl)⟩) q391 q393 q91 q395 nmk_16 (rm_of hF (Nat.le_of_ble_eq_true rfl) (Nat.le_of_ble_eq_true rfl)) dX3_turns_20 ?_ (sx_out G (fun z hz => (hxt z hz).elim))
  refine s_cast G.b G.ow G.kn G.hts q400 ct_1 dX3_turns_25 ?_
  refine s_astore_n rfl G.b (by rw [G.nl]; decide) (fun _ _ => by rw [hC]) dX3_turns_28 ?_
  refine s_iload_n rfl G.b dX3_turns_29 ?_
  refine s_aload_n rfl G.b dX3_turns_30 ?_
  exact (s_vsel (s_callF (r0 := (RX7, TX7, 4)) (w := ⟨"ChantRules$Arc", "hears", "()I"⟩) (by decide) rfl G (mX7_hears EN) q822 (va_Fw.moved (by decide +kernel) G.warm.alike ⟨(EN.nw q286 rfl), (EN.nw q285 rfl), (EN.nw q291 rfl), (EN.nw q289 rfl), (EN.nw q287 rfl)⟩) q288 q290 q99 q292 nmk_20 (rm_of hF (Nat.le_of_ble_eq_true rfl) (Nat.le_of_ble_eq_true rfl)) dX3_turns_31 (tX3_turns_36 EN G hF hC hxt h10 h77) (sx_out G (fun z hz => (hxt z hz).elim)) ) (s_callF (r0 := (RX8, TX8, 5)) (w := ⟨"ChantRules$Arc", "hears", "()I"⟩) (by decide) rfl G (mX8_hears EN) q822 (va_Fw.moved (by decide +kernel) G.warm.alike ⟨(EN.nw q286 rfl), (EN.nw q285 rfl), (EN.nw q297 rfl), (EN.nw q295 rfl), (EN.nw q293 rfl)⟩) q294 q296 q100 q298 nmk_20 (rm_of hF (Nat.le_of_ble_eq_true rfl) (Nat.le_of_ble_eq_true rfl)) dX3_turns_31 (tX3_turns_36 EN G hF hC hxt h10 h77) (sx_out G (fun z hz => (hxt z hz).elim)) ))
set_option maxHeartbeats 4000000 in
theorem tX3_turns_0 {x : CX} {E : Nat → Value} {Q : Rs → HS → Prop} {X10 X77 : Ct} (EN : EX x E) (G : Gd x cX3_turns "ChantRules$Rule" yX3_turns 4 (Option.some Jvm.ClassFile.FieldType.int) Q) (hF : x.1.2.2.2.frames = 7 ∧ x.1.2.2.2.locals = 179) (hC : x.2.2.2.2.2 = (fun _ => false)) (hxt : (∀ z ∈ x.2.2.1.2.1.exceptionTable.toList, False)) (h10 : Snd x 10 X10) (h77 : Snd x 77 X77) : Snd x 0 (bX3_turns_0 E Q X10 X77) := by
  unfold bX3_turns_0
  refine s_iconst (by decide) G.b dX3_turns_0 ?_
  refine s_istore_n rfl G.b (by rw [G.nl]; decide) (fun _ _ => by rw [hC]) dX3_turns_1 ?_
  refine s_aload_n rfl G.b dX3_turns_2 ?_
  refine s_getf G.b G.ow G.kn (G.hts _ q175) (fun _ h => h) fa_3 dX3_turns_3 ?_
  refine s_callV G (mJ2_iterator EN) q354 q355 (sel_cons (r := (RJ2, TJ2, 3)) (by decide) rfl q356 (sel_nil)) q82 q357 nmk_18 (rm_of hF (Nat.le_of_ble_eq_true rfl) (Nat.le_of_ble_eq_true rfl)) dX3_turns_6 ?_ (sx_out G (fun z hz => (hxt z hz).elim))
  refine s_astore_n rfl G.b (by rw [G.nl]; decide) (fun _ _ => by rw [hC]) dX3_turns_9 ?_
  exact h10
set_option maxHeartbeats 4000000 in
theorem mX3_turns {l : Launch} {D : DE} {s0 : State} {E : Nat → Value} (EN : EV l D s0 E) : rMet l D s0 yX3_turns (ws_ yX3_turns cX3_turns 4 (Option.some Jvm.ClassFile.FieldType.int)) 7 179 (wX3_turns E) := by
  refine body_met (fun _ => false) EN.kn (fun w h => h) (by decide +kernel) rfl (fun av h Q hw => ?_) ?_
  · unfold wX3_turns at hw
    split at hw
    · exact Nat.le_of_ble_eq_true rfl
    · exact hw.elim
  · intro p e s m below meth c av h Q hxt G hw
    unfold wX3_turns at hw
    split at hw
    · exact tX3_turns_0 EN G ⟨rfl, rfl⟩ rfl hxt (fun _ _ _ h => h) (fun _ _ _ h => h) _ _ _ (hw (AW _ 10) (AW _ 77) (tX3_turns_10 EN G ⟨rfl, rfl⟩ rfl hxt (fun _ _ _ h => h) (fun _ _ _ h => h)) (tX3_turns_77 EN G ⟨rfl, rfl⟩ rfl hxt (fun _ _ _ h => h) (fun _ _ _ h => h)))
    · exact hw.elim
/-! ChantRules$Choir.turns(I)I (X1_turns) -/
theorem nmk_140 : nm_ok yX3_turns 0 := ⟨by decide +kernel, by decide +kernel, by decide +kernel⟩
def bX1_turns_0 (E : Nat → Value) (Q : Rs → HS → Prop) : Ct :=
  o_aload 0 <|
  o_getf [1] 0 <|
  o_iload 1 <|
  o_ald [103, 104, 105, 106, 107] <|
  o_callV [2] 1 (wX3_turns E) (x_out Q) <|
  o_istore 2 <|
  o_aload 0 <|
  o_dup <|
  o_getf [1] 3 <|
  o_push (.int 1) <|
  o_iadd <|
  o_putf [1] 3 .int <|
  o_iload 2 <|
  o_ireturn .int Q
def wX1_turns (E : Nat → Value) : Wp := fun av h Q => match av with
  | [a0, a1] => bX1_turns_0 E Q [a0, a1, jk] [] h
  | _ => False
set_option maxHeartbeats 4000000 in
theorem tX1_turns_0 {x : CX} {E : Nat → Value} {Q : Rs → HS → Prop} (EN : EX x E) (G : Gd x cX1_turns "ChantRules$Choir" yX1_turns 3 (Option.some Jvm.ClassFile.FieldType.int) Q) (hF : x.1.2.2.2.frames = 8 ∧ x.1.2.2.2.locals = 202) (hC : x.2.2.2.2.2 = (fun _ => false)) (hxt : (∀ z ∈ x.2.2.1.2.1.exceptionTable.toList, False)) : Snd x 0 (bX1_turns_0 E Q) := by
  unfold bX1_turns_0
  refine s_aload_n rfl G.b dX1_turns_0 ?_
  refine s_getf G.b G.ow G.kn (G.hts _ q192) (fun _ h => h) fa_5 dX1_turns_1 ?_
  refine s_iload_n rfl G.b dX1_turns_4 ?_
  refine s_aald G.b G.kn dX1_turns_5 ?_
  refine s_callV G (mX3_turns EN) q817 q818 (sel_cons (r := (RX3, TX3, 3)) (by decide) rfl q819 (sel_nil)) q79 q820 nmk_140 (rm_of hF (Nat.le_of_ble_eq_true rfl) (Nat.le_of_ble_eq_true rfl)) dX1_turns_6 ?_ (sx_out G (fun z hz => (hxt z hz).elim))
  refine s_istore_n rfl G.b (by rw [G.nl]; decide) (fun _ _ => by rw [hC]) dX1_turns_9 ?_
  refine s_aload_n rfl G.b dX1_turns_10 ?_
  refine s_dup G.b dX1_turns_11 ?_
  refine s_getf G.b G.ow G.kn (G.hts _ q199) (fun _ h => h) fa_26 dX1_turns_12 ?_
  refine s_iconst (by decide) G.b dX1_turns_15 ?_
  refine s_iadd G.b dX1_turns_16 ?_
  refine s_putf G.b G.ow G.kn (G.hts _ q199) (fun _ h => h) fa_26 (la_cons (r := (RX1, TX1, 4)) G.hts (by decide) rfl q207 (la_nil)) (by decide +kernel) dX1_turns_17 ?_
  refine s_iload_n rfl G.b dX1_turns_20 ?_
  exact s_ireturn G dX1_turns_21
set_option maxHeartbeats 4000000 in
theorem mX1_turns {l : Launch} {D : DE} {s0 : State} {E : Nat → Value} (EN : EV l D s0 E) : rMet l D s0 yX1_turns (ws_ yX1_turns cX1_turns 3 (Option.some Jvm.ClassFile.FieldType.int)) 8 202 (wX1_turns E) := by
  refine body_met (fun _ => false) EN.kn (fun w h => h) (by decide +kernel) rfl (fun av h Q hw => ?_) ?_
  · unfold wX1_turns at hw
    split at hw
    · exact Nat.le_of_ble_eq_true rfl
    · exact hw.elim
  · intro p e s m below meth c av h Q hxt G hw
    unfold wX1_turns at hw
    split at hw
    · exact tX1_turns_0 EN G ⟨rfl, rfl⟩ rfl hxt _ _ _ hw
    · exact hw.elim
/-! ChantRules$Command.isArcDone(LChantRules$Choir;)Z (X14_isArcDone) -/
theorem fa_55 : fieldAt [7] 1 "ChantRules$Command" "rule" "I" := fa_cons (r := (RX14, TX14, 7)) rfl (by decide) rfl rfl rfl (fa_nil)
theorem fa_56 : fieldAt [7] 2 "ChantRules$Command" "one" "I" := fa_cons (r := (RX14, TX14, 7)) rfl (by decide) rfl rfl rfl (fa_nil)
theorem fa_57 : fieldAt [7] 3 "ChantRules$Command" "two" "I" := fa_cons (r := (RX14, TX14, 7)) rfl (by decide) rfl rfl rfl (fa_nil)
theorem fa_58 : fieldAt [7] 4 "ChantRules$Command" "hears" "I" := fa_cons (r := (RX14, TX14, 7)) rfl (by decide) rfl rfl rfl (fa_nil)
theorem fa_59 : fieldAt [7] 5 "ChantRules$Command" "sings" "I" := fa_cons (r := (RX14, TX14, 7)) rfl (by decide) rfl rfl rfl (fa_nil)
theorem fa_60 : fieldAt [7] 6 "ChantRules$Command" "weight" "I" := fa_cons (r := (RX14, TX14, 7)) rfl (by decide) rfl rfl rfl (fa_nil)
def bX14_isArcDone_89 (E : Nat → Value) (Q : Rs → HS → Prop) : Ct :=
  o_ireturn .boolean Q
def bX14_isArcDone_88 (E : Nat → Value) (Q : Rs → HS → Prop) : Ct :=
  o_push (.int 0) <|
  (bX14_isArcDone_89 E Q)
def bX14_isArcDone_45 (E : Nat → Value) (Q : Rs → HS → Prop) : Ct :=
  o_istore 2 <|
  o_iload 2 <|
  o_ifeq (bX14_isArcDone_88 E Q) <|
  o_aload 1 <|
  o_aload 0 <|
  o_getf [7] 1 <|
  o_aload 0 <|
  o_getf [7] 2 <|
  o_aload 0 <|
  o_getf [7] 3 <|
  o_aload 0 <|
  o_getf [7] 4 <|
  o_aload 0 <|
  o_getf [7] 5 <|
  o_aload 0 <|
  o_getf [7] 6 <|
  o_call 5 (wX0_arcOf E) (x_out Q) <|
  o_callV [1] 3 (wX1_tells E) (x_out Q) <|
  o_iflt (bX14_isArcDone_88 E Q) <|
  o_push (.int 1) <|
  (bX14_isArcDone_89 E Q)
def bX14_isArcDone_44 (E : Nat → Value) (Q : Rs → HS → Prop) : Ct :=
  o_push (.int 0) <|
  (bX14_isArcDone_45 E Q)
def bX14_isArcDone_0 (E : Nat → Value) (Q : Rs → HS → Prop) : Ct :=
  o_aload 1 <|
  o_aload 0 <|
  o_getf [7] 1 <|
  o_aload 0 <|
  o_getf [7] 2 <|
  o_callV [1] 3 (wX1_isState E) (x_out Q) <|
  o_ifeq (bX14_isArcDone_44 E Q) <|
  o_aload 1 <|
  o_aload 0 <|
  o_getf [7] 1 <|
  o_aload 0 <|
  o_getf [7] 3 <|
  o_callV [1] 3 (wX1_isState E) (x_out Q) <|
  o_ifeq (bX14_isArcDone_44 E Q) <|
  o_aload 0 <|
  o_getf [7] 6 <|
  o_call 1 (wX0_isWeight E) (x_out Q) <|
  o_ifeq (bX14_isArcDone_44 E Q) <|
  o_push (.int 1) <|
  (bX14_isArcDone_45 E Q)
def wX14_isArcDone (E : Nat → Value) : Wp := fun av h Q => match av with
  | [a0, a1] => bX14_isArcDone_0 E Q [a0, a1, jk] [] h
  | _ => False
set_option maxHeartbeats 4000000 in
theorem tX14_isArcDone_89 {x : CX} {E : Nat → Value} {Q : Rs → HS → Prop} (EN : EX x E) (G : Gd x cX14_isArcDone "ChantRules$Command" yX14_isArcDone 3 (Option.some Jvm.ClassFile.FieldType.boolean) Q) (hF : x.1.2.2.2.frames = 16 ∧ x.1.2.2.2.locals = 376) (hC : x.2.2.2.2.2 = (fun _ => false)) (hxt : (∀ z ∈ x.2.2.1.2.1.exceptionTable.toList, False)) : Snd x 89 (bX14_isArcDone_89 E Q) := by
  unfold bX14_isArcDone_89
  exact s_ireturn G dX14_isArcDone_89
set_option maxHeartbeats 4000000 in
theorem tX14_isArcDone_88 {x : CX} {E : Nat → Value} {Q : Rs → HS → Prop} (EN : EX x E) (G : Gd x cX14_isArcDone "ChantRules$Command" yX14_isArcDone 3 (Option.some Jvm.ClassFile.FieldType.boolean) Q) (hF : x.1.2.2.2.frames = 16 ∧ x.1.2.2.2.locals = 376) (hC : x.2.2.2.2.2 = (fun _ => false)) (hxt : (∀ z ∈ x.2.2.1.2.1.exceptionTable.toList, False)) : Snd x 88 (bX14_isArcDone_88 E Q) := by
  unfold bX14_isArcDone_88
  refine s_iconst (by decide) G.b dX14_isArcDone_88 ?_
  exact (tX14_isArcDone_89 EN G hF hC hxt)
set_option maxHeartbeats 4000000 in
theorem tX14_isArcDone_45 {x : CX} {E : Nat → Value} {Q : Rs → HS → Prop} (EN : EX x E) (G : Gd x cX14_isArcDone "ChantRules$Command" yX14_isArcDone 3 (Option.some Jvm.ClassFile.FieldType.boolean) Q) (hF : x.1.2.2.2.frames = 16 ∧ x.1.2.2.2.locals = 376) (hC : x.2.2.2.2.2 = (fun _ => false)) (hxt : (∀ z ∈ x.2.2.1.2.1.exceptionTable.toList, False)) : Snd x 45 (bX14_isArcDone_45 E Q) := by
  unfold bX14_isArcDone_45
  refine s_istore_n rfl G.b (by rw [G.nl]; decide) (fun _ _ => by rw [hC]) dX14_isArcDone_45 ?_
  refine s_iload_n rfl G.b dX14_isArcDone_46 ?_
  refine s_ifeq (tgt := 88) G.b dX14_isArcDone_47 (by decide) (tX14_isArcDone_88 EN G hF hC hxt) ?_
  refine s_aload_n rfl G.b dX14_isArcDone_50 ?_
  refine s_aload_n rfl G.b dX14_isArcDone_51 ?_
  refine s_getf G.b G.ow G.kn (G.hts _ q1589) (fun _ h => h) fa_55 dX14_isArcDone_52 ?_
  refine s_aload_n rfl G.b dX14_isArcDone_55 ?_
  refine s_getf G.b G.ow G.kn (G.hts _ q1591) (fun _ h => h) fa_56 dX14_isArcDone_56 ?_
  refine s_aload_n rfl G.b dX14_isArcDone_59 ?_
  refine s_getf G.b G.ow G.kn (G.hts _ q1593) (fun _ h => h) fa_57 dX14_isArcDone_60 ?_
  refine s_aload_n rfl G.b dX14_isArcDone_63 ?_
  refine s_getf G.b G.ow G.kn (G.hts _ q1595) (fun _ h => h) fa_58 dX14_isArcDone_64 ?_
  refine s_aload_n rfl G.b dX14_isArcDone_67 ?_
  refine s_getf G.b G.ow G.kn (G.hts _ q1597) (fun _ h => h) fa_59 dX14_isArcDone_68 ?_
  refine s_aload_n rfl G.b dX14_isArcDone_71 ?_
  refine s_getf G.b G.ow G.kn (G.hts _ q1599) (fun _ h => h) fa_60 dX14_isArcDone_72 ?_
  refine s_callSN G (mX0_arcOf EN) (va_Nw.use rfl (va_Nw.warmM G.warm (EN.nw q1706 rfl))) q631 q76 q632 nmk_83 (rm_of hF (Nat.le_of_ble_eq_true rfl) (Nat.le_of_ble_eq_true rfl)) dX14_isArcDone_75 ?_ (sx_out G (fun z hz => (hxt z hz).elim))
  refine s_callV G (mX1_tells EN) q1707 q681 (sel_cons (r := (RX1, TX1, 4)) (by decide) rfl q682 (sel_nil)) q77 q683 nmk_84 (rm_of hF (Nat.le_of_ble_eq_true rfl) (Nat.le_of_ble_eq_true rfl)) dX14_isArcDone_78 ?_ (sx_out G (fun z hz => (hxt z hz).elim))
  refine s_iflt (tgt := 88) G.b dX14_isArcDone_81 (by decide) (tX14_isArcDone_88 EN G hF hC hxt) ?_
  refine s_iconst (by decide) G.b dX14_isArcDone_84 ?_
  exact s_goto (tgt := 89) G.b dX14_isArcDone_85 (by decide) (tX14_isArcDone_89 EN G hF hC hxt)
set_option maxHeartbeats 4000000 in
theorem tX14_isArcDone_44 {x : CX} {E : Nat → Value} {Q : Rs → HS → Prop} (EN : EX x E) (G : Gd x cX14_isArcDone "ChantRules$Command" yX14_isArcDone 3 (Option.some Jvm.ClassFile.FieldType.boolean) Q) (hF : x.1.2.2.2.frames = 16 ∧ x.1.2.2.2.locals = 376) (hC : x.2.2.2.2.2 = (fun _ => false)) (hxt : (∀ z ∈ x.2.2.1.2.1.exceptionTable.toList, False)) : Snd x 44 (bX14_isArcDone_44 E Q) := by
  unfold bX14_isArcDone_44
  refine s_iconst (by decide) G.b dX14_isArcDone_44 ?_
  exact (tX14_isArcDone_45 EN G hF hC hxt)
set_option maxHeartbeats 4000000 in
theorem tX14_isArcDone_0 {x : CX} {E : Nat → Value} {Q : Rs → HS → Prop} (EN : EX x E) (G : Gd x cX14_isArcDone "ChantRules$Command" yX14_isArcDone 3 (Option.some Jvm.ClassFile.FieldType.boolean) Q) (hF : x.1.2.2.2.frames = 16 ∧ x.1.2.2.2.locals = 376) (hC : x.2.2.2.2.2 = (fun _ => false)) (hxt : (∀ z ∈ x.2.2.1.2.1.exceptionTable.toList, False)) : Snd x 0 (bX14_isArcDone_0 E Q) := by
  unfold bX14_isArcDone_0
  refine s_aload_n rfl G.b dX14_isArcDone_0 ?_
  refine s_aload_n rfl G.b dX14_isArcDone_1 ?_
  refine s_getf G.b G.ow G.kn (G.hts _ q1589) (fun _ h => h) fa_55 dX14_isArcDone_2 ?_
  refine s_aload_n rfl G.b dX14_isArcDone_5 ?_
  refine s_getf G.b G.ow G.kn (G.hts _ q1591) (fun _ h => h) fa_56 dX14_isArcDone_6 ?_
  refine s_callV G (mX1_isState EN) q1699 q603 (sel_cons (r := (RX1, TX1, 4)) (by decide) rfl q604 (sel_nil)) q77 q605 nmk_88 (rm_of hF (Nat.le_of_ble_eq_true rfl) (Nat.le_of_ble_eq_true rfl)) dX14_isArcDone_9 ?_ (sx_out G (fun z hz => (hxt z hz).elim))
  refine s_ifeq (tgt := 44) G.b dX14_isArcDone_12 (by decide) (tX14_isArcDone_44 EN G hF hC hxt) ?_
  refine s_aload_n rfl G.b dX14_isArcDone_15 ?_
  refine s_aload_n rfl G.b dX14_isArcDone_16 ?_
  refine s_getf G.b G.ow G.kn (G.hts _ q1589) (fun _ h => h) fa_55 dX14_isArcDone_17 ?_
  refine s_aload_n rfl G.b dX14_isArcDone_20 ?_
  refine s_getf G.b G.ow G.kn (G.hts _ q1593) (fun _ h => h) fa_57 dX14_isArcDone_21 ?_
  refine s_callV G (mX1_isState EN) q1699 q603 (sel_cons (r := (RX1, TX1, 4)) (by decide) rfl q604 (sel_nil)) q77 q605 nmk_88 (rm_of hF (Nat.le_of_ble_eq_true rfl) (Nat.le_of_ble_eq_true rfl)) dX14_isArcDone_24 ?_ (sx_out G (fun z hz => (hxt z hz).elim))
  refine s_ifeq (tgt := 44) G.b dX14_isArcDone_27 (by decide) (tX14_isArcDone_44 EN G hF hC hxt) ?_
  refine s_aload_n rfl G.b dX14_isArcDone_30 ?_
  refine s_getf G.b G.ow G.kn (G.hts _ q1599) (fun _ h => h) fa_60 dX14_isArcDone_31 ?_
  refine s_callSN G (mX0_isWeight EN) (va_Nw.use rfl (va_Nw.warmM G.warm (EN.nw q1705 rfl))) q613 q76 q614 nmk_87 (rm_of hF (Nat.le_of_ble_eq_true rfl) (Nat.le_of_ble_eq_true rfl)) dX14_isArcDone_34 ?_ (sx_out G (fun z hz => (hxt z hz).elim))
  refine s_ifeq (tgt := 44) G.b dX14_isArcDone_37 (by decide) (tX14_isArcDone_44 EN G hF hC hxt) ?_
  refine s_iconst (by decide) G.b dX14_isArcDone_40 ?_
  exact s_goto (tgt := 45) G.b dX14_isArcDone_41 (by decide) (tX14_isArcDone_45 EN G hF hC hxt)
set_option maxHeartbeats 4000000 in
theorem mX14_isArcDone {l : Launch} {D : DE} {s0 : State} {E : Nat → Value} (EN : EV l D s0 E) : rMet l D s0 yX14_isArcDone (ws_ yX14_isArcDone cX14_isArcDone 3 (Option.some Jvm.ClassFile.FieldType.boolean)) 16 376 (wX14_isArcDone E) := by
  refine body_met (fun _ => false) EN.kn (fun w h => h) (by decide +kernel) rfl (fun av h Q hw => ?_) ?_
  · unfold wX14_isArcDone at hw
    split at hw
    · exact Nat.le_of_ble_eq_true rfl
    · exact hw.elim
  · intro p e s m below meth c av h Q hxt G hw
    unfold wX14_isArcDone at hw
    split at hw
    · exact tX14_isArcDone_0 EN G ⟨rfl, rfl⟩ rfl hxt _ _ _ hw
    · exact hw.elim
/-! ChantRules$Rule.ends(II)I (X3_ends) -/
def bX3_ends_15 (E : Nat → Value) (Q : Rs → HS → Prop) : Ct :=
  o_push (.int 3) <|
  o_iload 1 <|
  o_call 3 (wX0_refuse E) (x_out Q) <|
  o_aload 0 <|
  o_getf [2] 1 <|
  o_iload 1 <|
  o_iload 2 <|
  o_ast [(100, .int)] <|
  o_aload 0 <|
  o_callV [2] 1 (wX3_endMany E) (x_out Q) <|
  o_ireturn .int Q
def bX3_ends_14 (E : Nat → Value) (Q : Rs → HS → Prop) : Ct :=
  o_push (.int 0) <|
  (bX3_ends_15 E Q)
def bX3_ends_0 (E : Nat → Value) (Q : Rs → HS → Prop) : Ct :=
  o_aload 0 <|
  o_getf [2] 1 <|
  o_iload 1 <|
  o_ald [100] <|
  o_iload 2 <|
  o_icmpne (bX3_ends_14 E Q) <|
  o_push (.int 1) <|
  (bX3_ends_15 E Q)
def wX3_ends (E : Nat → Value) : Wp := fun av h Q => match av with
  | [a0, a1, a2] => bX3_ends_0 E Q [a0, a1, a2] [] h
  | _ => False
set_option maxHeartbeats 4000000 in
theorem tX3_ends_15 {x : CX} {E : Nat → Value} {Q : Rs → HS → Prop} (EN : EX x E) (G : Gd x cX3_ends "ChantRules$Rule" yX3_ends 3 (Option.some Jvm.ClassFile.FieldType.int) Q) (hF : x.1.2.2.2.frames = 7 ∧ x.1.2.2.2.locals = 179) (hC : x.2.2.2.2.2 = (fun _ => false)) (hxt : (∀ z ∈ x.2.2.1.2.1.exceptionTable.toList, False)) : Snd x 15 (bX3_ends_15 E Q) := by
  unfold bX3_ends_15
  refine s_iconst (by decide) G.b dX3_ends_15 ?_
  refine s_iload_n rfl G.b dX3_ends_16 ?_
  refine s_callSN G (mX0_refuse EN) (va_Nw.use rfl (va_Nw.warmM G.warm (EN.nw q474 rfl))) q475 q76 q476 nmk_77 (rm_of hF (Nat.le_of_ble_eq_true rfl) (Nat.le_of_ble_eq_true rfl)) dX3_ends_17 ?_ (sx_out G (fun z hz => (hxt z hz).elim))
  refine s_aload_n rfl G.b dX3_ends_20 ?_
  refine s_getf G.b G.ow G.kn (G.hts _ q179) (fun _ h => h) fa_2 dX3_ends_21 ?_
  refine s_iload_n rfl G.b dX3_ends_24 ?_
  refine s_iload_n rfl G.b dX3_ends_25 ?_
  refine s_iast G.b G.kn dX3_ends_26 ?_
  refine s_aload_n rfl G.b dX3_ends_27 ?_
  refine s_callV G (mX3_endMany EN) q619 q620 (sel_cons (r := (RX3, TX3, 3)) (by decide) rfl q621 (sel_nil)) q79 q622 nmk_27 (rm_of hF (Nat.le_of_ble_eq_true rfl) (Nat.le_of_ble_eq_true rfl)) dX3_ends_28 ?_ (sx_out G (fun z hz => (hxt z hz).elim))
  exact s_ireturn G dX3_ends_31
set_option maxHeartbeats 4000000 in
theorem tX3_ends_14 {x : CX} {E : Nat → Value} {Q : Rs → HS → Prop} (EN : EX x E) (G : Gd x cX3_ends "ChantRules$Rule" yX3_ends 3 (Option.some Jvm.ClassFile.FieldType.int) Q) (hF : x.1.2.2.2.frames = 7 ∧ x.1.2.2.2.locals = 179) (hC : x.2.2.2.2.2 = (fun _ => false)) (hxt : (∀ z ∈ x.2.2.1.2.1.exceptionTable.toList, False)) : Snd x 14 (bX3_ends_14 E Q) := by
  unfold bX3_ends_14
  refine s_iconst (by decide) G.b dX3_ends_14 ?_
  exact (tX3_ends_15 EN G hF hC hxt)
set_option maxHeartbeats 4000000 in
theorem tX3_ends_0 {x : CX} {E : Nat → Value} {Q : Rs → HS → Prop} (EN : EX x E) (G : Gd x cX3_ends "ChantRules$Rule" yX3_ends 3 (Option.some Jvm.ClassFile.FieldType.int) Q) (hF : x.1.2.2.2.frames = 7 ∧ x.1.2.2.2.locals = 179) (hC : x.2.2.2.2.2 = (fun _ => false)) (hxt : (∀ z ∈ x.2.2.1.2.1.exceptionTable.toList, False)) : Snd x 0 (bX3_ends_0 E Q) := by
  unfold bX3_ends_0
  refine s_aload_n rfl G.b dX3_ends_0 ?_
  refine s_getf G.b G.ow G.kn (G.hts _ q179) (fun _ h => h) fa_2 dX3_ends_1 ?_
  refine s_iload_n rfl G.b dX3_ends_4 ?_
  refine s_iald G.b G.kn dX3_ends_5 ?_
  refine s_iload_n rfl G.b dX3_ends_6 ?_
  refine s_icmpne (tgt := 14) G.b dX3_ends_7 (by decide) (tX3_ends_14 EN G hF hC hxt) ?_
  refine s_iconst (by decide) G.b dX3_ends_10 ?_
  exact s_goto (tgt := 15) G.b dX3_ends_11 (by decide) (tX3_ends_15 EN G hF hC hxt)
set_option maxHeartbeats 4000000 in
theorem mX3_ends {l : Launch} {D : DE} {s0 : State} {E : Nat → Value} (EN : EV l D s0 E) : rMet l D s0 yX3_ends (ws_ yX3_ends cX3_ends 3 (Option.some Jvm.ClassFile.FieldType.int)) 7 179 (wX3_ends E) := by
  refine body_met (fun _ => false) EN.kn (fun w h => h) (by decide +kernel) rfl (fun av h Q hw => ?_) ?_
  · unfold wX3_ends at hw
    split at hw
    · exact Nat.le_of_ble_eq_true rfl
    · exact hw.elim
  · intro p e s m below meth c av h Q hxt G hw
    unfold wX3_ends at hw
    split at hw
    · exact tX3_ends_0 EN G ⟨rfl, rfl⟩ rfl hxt _ _ _ hw
    · exact hw.elim
/-! ChantRules$Rule.tells()I (X3_tells) -/
def bX3_tells_13 (E : Nat → Value) (Q : Rs → HS → Prop) : Ct :=
  o_push (.int 1) <|
  o_push (.int 5) <|
  o_call 3 (wX0_refuse E) (x_out Q) <|
  o_aload 0 <|
  o_dup <|
  o_getf [2] 2 <|
  o_push (.int 1) <|
  o_iadd <|
  o_putf [2] 2 .int <|
  o_aload 0 <|
  o_getf [2] 2 <|
  o_push (.int 1) <|
  o_isub <|
  o_ireturn .int Q
def bX3_tells_12 (E : Nat → Value) (Q : Rs → HS → Prop) : Ct :=
  o_push (.int 0) <|
  (bX3_tells_13 E Q)
def bX3_tells_0 (E : Nat → Value) (Q : Rs → HS → Prop) : Ct :=
  o_aload 0 <|
  o_getf [2] 2 <|
  o_push (.int 5) <|
  o_icmpne (bX3_tells_12 E Q) <|
  o_push (.int 1) <|
  (bX3_tells_13 E Q)
def wX3_tells (E : Nat → Value) : Wp := fun av h Q => match av with
  | [a0] => bX3_tells_0 E Q [a0] [] h
  | _ => False
set_option maxHeartbeats 4000000 in
theorem tX3_tells_13 {x : CX} {E : Nat → Value} {Q : Rs → HS → Prop} (EN : EX x E) (G : Gd x cX3_tells "ChantRules$Rule" yX3_tells 1 (Option.some Jvm.ClassFile.FieldType.int) Q) (hF : x.1.2.2.2.frames = 7 ∧ x.1.2.2.2.locals = 179) (hC : x.2.2.2.2.2 = (fun _ => false)) (hxt : (∀ z ∈ x.2.2.1.2.1.exceptionTable.toList, False)) : Snd x 13 (bX3_tells_13 E Q) := by
  unfold bX3_tells_13
  refine s_iconst (by decide) G.b dX3_tells_13 ?_
  refine s_iconst (by decide) G.b dX3_tells_14 ?_
  refine s_callSN G (mX0_refuse EN) (va_Nw.use rfl (va_Nw.warmM G.warm (EN.nw q474 rfl))) q475 q76 q476 nmk_77 (rm_of hF (Nat.le_of_ble_eq_true rfl) (Nat.le_of_ble_eq_true rfl)) dX3_tells_15 ?_ (sx_out G (fun z hz => (hxt z hz).elim))
  refine s_aload_n rfl G.b dX3_tells_18 ?_
  refine s_dup G.b dX3_tells_19 ?_
  refine s_getf G.b G.ow G.kn (G.hts _ q180) (fun _ h => h) fa_4 dX3_tells_20 ?_
  refine s_iconst (by decide) G.b dX3_tells_23 ?_
  refine s_iadd G.b dX3_tells_24 ?_
  refine s_putf G.b G.ow G.kn (G.hts _ q180) (fun _ h => h) fa_4 (la_cons (r := (RX3, TX3, 3)) G.hts (by decide) rfl q188 (la_nil)) (by decide +kernel) dX3_tells_25 ?_
  refine s_aload_n rfl G.b dX3_tells_28 ?_
  refine s_getf G.b G.ow G.kn (G.hts _ q180) (fun _ h => h) fa_4 dX3_tells_29 ?_
  refine s_iconst (by decide) G.b dX3_tells_32 ?_
  refine s_isub G.b dX3_tells_33 ?_
  exact s_ireturn G dX3_tells_34
set_option maxHeartbeats 4000000 in
theorem tX3_tells_12 {x : CX} {E : Nat → Value} {Q : Rs → HS → Prop} (EN : EX x E) (G : Gd x cX3_tells "ChantRules$Rule" yX3_tells 1 (Option.some Jvm.ClassFile.FieldType.int) Q) (hF : x.1.2.2.2.frames = 7 ∧ x.1.2.2.2.locals = 179) (hC : x.2.2.2.2.2 = (fun _ => false)) (hxt : (∀ z ∈ x.2.2.1.2.1.exceptionTable.toList, False)) : Snd x 12 (bX3_tells_12 E Q) := by
  unfold bX3_tells_12
  refine s_iconst (by decide) G.b dX3_tells_12 ?_
  exact (tX3_tells_13 EN G hF hC hxt)
set_option maxHeartbeats 4000000 in
theorem tX3_tells_0 {x : CX} {E : Nat → Value} {Q : Rs → HS → Prop} (EN : EX x E) (G : Gd x cX3_tells "ChantRules$Rule" yX3_tells 1 (Option.some Jvm.ClassFile.FieldType.int) Q) (hF : x.1.2.2.2.frames = 7 ∧ x.1.2.2.2.locals = 179) (hC : x.2.2.2.2.2 = (fun _ => false)) (hxt : (∀ z ∈ x.2.2.1.2.1.exceptionTable.toList, False)) : Snd x 0 (bX3_tells_0 E Q) := by
  unfold bX3_tells_0
  refine s_aload_n rfl G.b dX3_tells_0 ?_
  refine s_getf G.b G.ow G.kn (G.hts _ q180) (fun _ h => h) fa_4 dX3_tells_1 ?_
  refine s_iconst (by decide) G.b dX3_tells_4 ?_
  refine s_icmpne (tgt := 12) G.b dX3_tells_5 (by decide) (tX3_tells_12 EN G hF hC hxt) ?_
  refine s_iconst (by decide) G.b dX3_tells_8 ?_
  exact s_goto (tgt := 13) G.b dX3_tells_9 (by decide) (tX3_tells_13 EN G hF hC hxt)
set_option maxHeartbeats 4000000 in
theorem mX3_tells {l : Launch} {D : DE} {s0 : State} {E : Nat → Value} (EN : EV l D s0 E) : rMet l D s0 yX3_tells (ws_ yX3_tells cX3_tells 1 (Option.some Jvm.ClassFile.FieldType.int)) 7 179 (wX3_tells E) := by
  refine body_met (fun _ => false) EN.kn (fun w h => h) (by decide +kernel) rfl (fun av h Q hw => ?_) ?_
  · unfold wX3_tells at hw
    split at hw
    · exact Nat.le_of_ble_eq_true rfl
    · exact hw.elim
  · intro p e s m below meth c av h Q hxt G hw
    unfold wX3_tells at hw
    split at hw
    · exact tX3_tells_0 EN G ⟨rfl, rfl⟩ rfl hxt _ _ _ hw
    · exact hw.elim
/-! ChantRules.weighed(LChantRules$Arc;I)LChantRules$Arc; (X0_weighed) -/
def bX0_weighed_24 (E : Nat → Value) (Q : Rs → HS → Prop) : Ct :=
  o_iload 1 <|
  o_call 5 (wX0_arcOf E) (x_out Q) <|
  o_areturn Q
def bX0_weighed_18 (E : Nat → Value) (Q : Rs → HS → Prop) : Ct :=
  o_aload 0 <|
  o_vsel 1 [10] (o_callV [10] 1 (wX7_sings E) (x_out Q) (bX0_weighed_24 E Q)) (o_callV [11] 1 (wX8_sings E) (x_out Q) (bX0_weighed_24 E Q))
def bX0_weighed_12 (E : Nat → Value) (Q : Rs → HS → Prop) : Ct :=
  o_aload 0 <|
  o_vsel 1 [10] (o_callV [10] 1 (wX7_hears E) (x_out Q) (bX0_weighed_18 E Q)) (o_callV [11] 1 (wX8_hears E) (x_out Q) (bX0_weighed_18 E Q))
def bX0_weighed_6 (E : Nat → Value) (Q : Rs → HS → Prop) : Ct :=
  o_aload 0 <|
  o_vsel 1 [10] (o_callV [10] 1 (wX7_to E) (x_out Q) (bX0_weighed_12 E Q)) (o_callV [11] 1 (wX8_to E) (x_out Q) (bX0_weighed_12 E Q))
def bX0_weighed_0 (E : Nat → Value) (Q : Rs → HS → Prop) : Ct :=
  o_aload 0 <|
  o_vsel 1 [10] (o_callV [10] 1 (wX7_from E) (x_out Q) (bX0_weighed_6 E Q)) (o_callV [11] 1 (wX8_from E) (x_out Q) (bX0_weighed_6 E Q))
def wX0_weighed (E : Nat → Value) : Wp := fun av h Q => match av with
  | [a0, a1] => bX0_weighed_0 E Q [a0, a1] [] h
  | _ => False
set_option maxHeartbeats 4000000 in
theorem tX0_weighed_24 {x : CX} {E : Nat → Value} {Q : Rs → HS → Prop} (EN : EX x E) (G : Gd x cX0_weighed "ChantRules" yX0_weighed 2 (Option.some (Jvm.ClassFile.FieldType.object "ChantRules$Arc")) Q) (hF : x.1.2.2.2.frames = 4 ∧ x.1.2.2.2.locals = 113) (hC : x.2.2.2.2.2 = (fun _ => false)) (hxt : (∀ z ∈ x.2.2.1.2.1.exceptionTable.toList, False)) : Snd x 24 (bX0_weighed_24 E Q) := by
  unfold bX0_weighed_24
  refine s_iload_n rfl G.b dX0_weighed_24 ?_
  refine s_callS G (mX0_arcOf EN) q630 q631 q76 q632 nmk_83 (rm_of hF (Nat.le_of_ble_eq_true rfl) (Nat.le_of_ble_eq_true rfl)) dX0_weighed_25 ?_ (sx_out G (fun z hz => (hxt z hz).elim))
  exact s_areturn (Or.inl ⟨_, rfl⟩) G dX0_weighed_28
set_option maxHeartbeats 4000000 in
theorem tX0_weighed_18 {x : CX} {E : Nat → Value} {Q : Rs → HS → Prop} (EN : EX x E) (G : Gd x cX0_weighed "ChantRules" yX0_weighed 2 (Option.some (Jvm.ClassFile.FieldType.object "ChantRules$Arc")) Q) (hF : x.1.2.2.2.frames = 4 ∧ x.1.2.2.2.locals = 113) (hC : x.2.2.2.2.2 = (fun _ => false)) (hxt : (∀ z ∈ x.2.2.1.2.1.exceptionTable.toList, False)) : Snd x 18 (bX0_weighed_18 E Q) := by
  unfold bX0_weighed_18
  refine s_aload_n rfl G.b dX0_weighed_18 ?_
  exact (s_vsel (s_callF (r0 := (RX7, TX7, 4)) (w := ⟨"ChantRules$Arc", "sings", "()I"⟩) (by decide) rfl G (mX7_sings EN) q738 (va_Fw.moved (by decide +kernel) G.warm.alike ⟨(EN.nw q740 rfl), (EN.nw q739 rfl), (EN.nw q744 rfl), (EN.nw q742 rfl), (EN.nw q287 rfl)⟩) q741 q743 q99 q745 nmk_68 (rm_of hF (Nat.le_of_ble_eq_true rfl) (Nat.le_of_ble_eq_true rfl)) dX0_weighed_19 (tX0_weighed_24 EN G hF hC hxt) (sx_out G (fun z hz => (hxt z hz).elim)) ) (s_callF (r0 := (RX8, TX8, 5)) (w := ⟨"ChantRules$Arc", "sings", "()I"⟩) (by decide) rfl G (mX8_sings EN) q738 (va_Fw.moved (by decide +kernel) G.warm.alike ⟨(EN.nw q740 rfl), (EN.nw q739 rfl), (EN.nw q749 rfl), (EN.nw q747 rfl), (EN.nw q293 rfl)⟩) q746 q748 q100 q750 nmk_68 (rm_of hF (Nat.le_of_ble_eq_true rfl) (Nat.le_of_ble_eq_true rfl)) dX0_weighed_19 (tX0_weighed_24 EN G hF hC hxt) (sx_out G (fun z hz => (hxt z hz).elim)) ))
set_option maxHeartbeats 4000000 in
theorem tX0_weighed_12 {x : CX} {E : Nat → Value} {Q : Rs → HS → Prop} (EN : EX x E) (G : Gd x cX0_weighed "ChantRules" yX0_weighed 2 (Option.some (Jvm.ClassFile.FieldType.object "ChantRules$Arc")) Q) (hF : x.1.2.2.2.frames = 4 ∧ x.1.2.2.2.locals = 113) (hC : x.2.2.2.2.2 = (fun _ => false)) (hxt : (∀ z ∈ x.2.2.1.2.1.exceptionTable.toList, False)) : Snd x 12 (bX0_weighed_12 E Q) := by
  unfold bX0_weighed_12
  refine s_aload_n rfl G.b dX0_weighed_12 ?_
  exact (s_vsel (s_callF (r0 := (RX7, TX7, 4)) (w := ⟨"ChantRules$Arc", "hears", "()I"⟩) (by decide) rfl G (mX7_hears EN) q284 (va_Fw.moved (by decide +kernel) G.warm.alike ⟨(EN.nw q286 rfl), (EN.nw q285 rfl), (EN.nw q291 rfl), (EN.nw q289 rfl), (EN.nw q287 rfl)⟩) q288 q290 q99 q292 nmk_20 (rm_of hF (Nat.le_of_ble_eq_true rfl) (Nat.le_of_ble_eq_true rfl)) dX0_weighed_13 (tX0_weighed_18 EN G hF hC hxt) (sx_out G (fun z hz => (hxt z hz).elim)) ) (s_callF (r0 := (RX8, TX8, 5)) (w := ⟨"ChantRules$Arc", "hears", "()I"⟩) (by decide) rfl G (mX8_hears EN) q284 (va_Fw.moved (by decide +kernel) G.warm.alike ⟨(EN.nw q286 rfl), (EN.nw q285 rfl), (EN.nw q297 rfl), (EN.nw q295 rfl), (EN.nw q293 rfl)⟩) q294 q296 q100 q298 nmk_20 (rm_of hF (Nat.le_of_ble_eq_true rfl) (Nat.le_of_ble_eq_true rfl)) dX0_weighed_13 (tX0_weighed_18 EN G hF hC hxt) (sx_out G (fun z hz => (hxt z hz).elim)) ))
set_option maxHeartbeats 4000000 in
theorem tX0_weighed_6 {x : CX} {E : Nat → Value} {Q : Rs → HS → Prop} (EN : EX x E) (G : Gd x cX0_weighed "ChantRules" yX0_weighed 2 (Option.some (Jvm.ClassFile.FieldType.object "ChantRules$Arc")) Q) (hF : x.1.2.2.2.frames = 4 ∧ x.1.2.2.2.locals = 113) (hC : x.2.2.2.2.2 = (fun _ => false)) (hxt : (∀ z ∈ x.2.2.1.2.1.exceptionTable.toList, False)) : Snd x 6 (bX0_weighed_6 E Q) := by
  unfold bX0_weighed_6
  refine s_aload_n rfl G.b dX0_weighed_6 ?_
  exact (s_vsel (s_callF (r0 := (RX7, TX7, 4)) (w := ⟨"ChantRules$Arc", "to", "()I"⟩) (by decide) rfl G (mX7_to EN) q724 (va_Fw.moved (by decide +kernel) G.warm.alike ⟨(EN.nw q726 rfl), (EN.nw q725 rfl), (EN.nw q730 rfl), (EN.nw q728 rfl), (EN.nw q287 rfl)⟩) q727 q729 q99 q731 nmk_69 (rm_of hF (Nat.le_of_ble_eq_true rfl) (Nat.le_of_ble_eq_true rfl)) dX0_weighed_7 (tX0_weighed_12 EN G hF hC hxt) (sx_out G (fun z hz => (hxt z hz).elim)) ) (s_callF (r0 := (RX8, TX8, 5)) (w := ⟨"ChantRules$Arc", "to", "()I"⟩) (by decide) rfl G (mX8_to EN) q724 (va_Fw.moved (by decide +kernel) G.warm.alike ⟨(EN.nw q726 rfl), (EN.nw q725 rfl), (EN.nw q735 rfl), (EN.nw q733 rfl), (EN.nw q293 rfl)⟩) q732 q734 q100 q736 nmk_69 (rm_of hF (Nat.le_of_ble_eq_true rfl) (Nat.le_of_ble_eq_true rfl)) dX0_weighed_7 (tX0_weighed_12 EN G hF hC hxt) (sx_out G (fun z hz => (hxt z hz).elim)) ))
set_option maxHeartbeats 4000000 in
theorem tX0_weighed_0 {x : CX} {E : Nat → Value} {Q : Rs → HS → Prop} (EN : EX x E) (G : Gd x cX0_weighed "ChantRules" yX0_weighed 2 (Option.some (Jvm.ClassFile.FieldType.object "ChantRules$Arc")) Q) (hF : x.1.2.2.2.frames = 4 ∧ x.1.2.2.2.locals = 113) (hC : x.2.2.2.2.2 = (fun _ => false)) (hxt : (∀ z ∈ x.2.2.1.2.1.exceptionTable.toList, False)) : Snd x 0 (bX0_weighed_0 E Q) := by
  unfold bX0_weighed_0
  refine s_aload_n rfl G.b dX0_weighed_0 ?_
  exact (s_vsel (s_callF (r0 := (RX7, TX7, 4)) (w := ⟨"ChantRules$Arc", "from", "()I"⟩) (by decide) rfl G (mX7_from EN) q710 (va_Fw.moved (by decide +kernel) G.warm.alike ⟨(EN.nw q712 rfl), (EN.nw q711 rfl), (EN.nw q716 rfl), (EN.nw q714 rfl), (EN.nw q287 rfl)⟩) q713 q715 q99 q717 nmk_70 (rm_of hF (Nat.le_of_ble_eq_true rfl) (Nat.le_of_ble_eq_true rfl)) dX0_weighed_1 (tX0_weighed_6 EN G hF hC hxt) (sx_out G (fun z hz => (hxt z hz).elim)) ) (s_callF (r0 := (RX8, TX8, 5)) (w := ⟨"ChantRules$Arc", "from", "()I"⟩) (by decide) rfl G (mX8_from EN) q710 (va_Fw.moved (by decide +kernel) G.warm.alike ⟨(EN.nw q712 rfl), (EN.nw q711 rfl), (EN.nw q721 rfl), (EN.nw q719 rfl), (EN.nw q293 rfl)⟩) q718 q720 q100 q722 nmk_70 (rm_of hF (Nat.le_of_ble_eq_true rfl) (Nat.le_of_ble_eq_true rfl)) dX0_weighed_1 (tX0_weighed_6 EN G hF hC hxt) (sx_out G (fun z hz => (hxt z hz).elim)) ))
set_option maxHeartbeats 4000000 in
theorem mX0_weighed {l : Launch} {D : DE} {s0 : State} {E : Nat → Value} (EN : EV l D s0 E) : rMet l D s0 yX0_weighed (ws_ yX0_weighed cX0_weighed 2 (Option.some (Jvm.ClassFile.FieldType.object "ChantRules$Arc"))) 4 113 (wX0_weighed E) := by
  refine body_met (fun _ => false) EN.kn (fun w h => h) (by decide +kernel) rfl (fun av h Q hw => ?_) ?_
  · unfold wX0_weighed at hw
    split at hw
    · exact Nat.le_of_ble_eq_true rfl
    · exact hw.elim
  · intro p e s m below meth c av h Q hxt G hw
    unfold wX0_weighed at hw
    split at hw
    · exact tX0_weighed_0 EN G ⟨rfl, rfl⟩ rfl hxt _ _ _ hw
    · exact hw.elim
/-! ChantRules$Rule.weighs(II)I (X3_weighs) -/
theorem nmk_141 : nm_ok yX0_weighed 2 := ⟨by decide +kernel, by decide +kernel, by decide +kernel⟩
def bX3_weighs_57 (E : Nat → Value) (Q : Rs → HS → Prop) : Ct :=
  o_ireturn .int Q
def bX3_weighs_27 (E : Nat → Value) (Q : Rs → HS → Prop) : Ct :=
  o_push (.int 3) <|
  o_iload 1 <|
  o_call 3 (wX0_refuse E) (x_out Q) <|
  o_aload 0 <|
  o_getf [2] 0 <|
  o_iload 1 <|
  o_aload 3 <|
  o_iload 2 <|
  o_call 2 (wX0_weighed E) (x_out Q) <|
  o_callV [15] 3 (wJ2_set E) (x_out Q) <|
  o_cast [10, 11] <|
  o_astore 4 <|
  o_aload 4 <|
  o_vsel 1 [10] (o_callV [10] 1 (wX7_weight E) (x_out Q) (bX3_weighs_57 E Q)) (o_callV [11] 1 (wX8_weight E) (x_out Q) (bX3_weighs_57 E Q))
def bX3_weighs_26 (E : Nat → Value) (Q : Rs → HS → Prop) : Ct :=
  o_push (.int 0) <|
  (bX3_weighs_27 E Q)
def bX3_weighs_18 (E : Nat → Value) (Q : Rs → HS → Prop) : Ct :=
  o_iload 2 <|
  o_icmpne (bX3_weighs_26 E Q) <|
  o_push (.int 1) <|
  (bX3_weighs_27 E Q)
def bX3_weighs_0 (E : Nat → Value) (Q : Rs → HS → Prop) : Ct :=
  o_aload 0 <|
  o_getf [2] 0 <|
  o_iload 1 <|
  o_callV [15] 2 (wJ2_get E) (x_out Q) <|
  o_cast [10, 11] <|
  o_astore 3 <|
  o_aload 3 <|
  o_vsel 1 [10] (o_callV [10] 1 (wX7_weight E) (x_out Q) (bX3_weighs_18 E Q)) (o_callV [11] 1 (wX8_weight E) (x_out Q) (bX3_weighs_18 E Q))
def wX3_weighs (E : Nat → Value) : Wp := fun av h Q => match av with
  | [a0, a1, a2] => bX3_weighs_0 E Q [a0, a1, a2, jk, jk] [] h
  | _ => False
set_option maxHeartbeats 4000000 in
theorem tX3_weighs_57 {x : CX} {E : Nat → Value} {Q : Rs → HS → Prop} (EN : EX x E) (G : Gd x cX3_weighs "ChantRules$Rule" yX3_weighs 5 (Option.some Jvm.ClassFile.FieldType.int) Q) (hF : x.1.2.2.2.frames = 7 ∧ x.1.2.2.2.locals = 179) (hC : x.2.2.2.2.2 = (fun _ => false)) (hxt : (∀ z ∈ x.2.2.1.2.1.exceptionTable.toList, False)) : Snd x 57 (bX3_weighs_57 E Q) := by
  unfold bX3_weighs_57
  exact s_ireturn G dX3_weighs_57
set_option maxHeartbeats 4000000 in
theorem tX3_weighs_27 {x : CX} {E : Nat → Value} {Q : Rs → HS → Prop} (EN : EX x E) (G : Gd x cX3_weighs "ChantRules$Rule" yX3_weighs 5 (Option.some Jvm.ClassFile.FieldType.int) Q) (hF : x.1.2.2.2.frames = 7 ∧ x.1.2.2.2.locals = 179) (hC : x.2.2.2.2.2 = (fun _ => false)) (hxt : (∀ z ∈ x.2.2.1.2.1.exceptionTable.toList, False)) : Snd x 27 (bX3_weighs_27 E Q) := by
  unfold bX3_weighs_27
  refine s_iconst (by decide) G.b dX3_weighs_27 ?_
  refine s_iload_n rfl G.b dX3_weighs_28 ?_
  refine s_callSN G (mX0_refuse EN) (va_Nw.use rfl (va_Nw.warmM G.warm (EN.nw q474 rfl))) q475 q76 q476 nmk_77 (rm_of hF (Nat.le_of_ble_eq_true rfl) (Nat.le_of_ble_eq_true rfl)) dX3_weighs_29 ?_ (sx_out G (fun z hz => (hxt z hz).elim))
  refine s_aload_n rfl G.b dX3_weighs_32 ?_
  refine s_getf G.b G.ow G.kn (G.hts _ q175) (fun _ h => h) fa_3 dX3_weighs_33 ?_
  refine s_iload_n rfl G.b dX3_weighs_36 ?_
  refine s_aload_n rfl G.b dX3_weighs_37 ?_
  refine s_iload_n rfl G.b dX3_weighs_38 ?_
  refine s_callSN G (mX0_weighed EN) (va_Nw.use rfl (va_Nw.warmM G.warm (EN.nw q781 rfl))) q782 q76 q783 nmk_141 (rm_of hF (Nat.le_of_ble_eq_true rfl) (Nat.le_of_ble_eq_true rfl)) dX3_weighs_39 ?_ (sx_out G (fun z hz => (hxt z hz).elim))
  refine s_callV G (mJ2_set EN) q784 q785 (sel_cons (r := (RJ2, TJ2, 3)) (by decide) rfl q786 (sel_nil)) q82 q787 nmk_137 (rm_of hF (Nat.le_of_ble_eq_true rfl) (Nat.le_of_ble_eq_true rfl)) dX3_weighs_42 ?_ (sx_out G (fun z hz => (hxt z hz).elim))
  refine s_cast G.b G.ow G.kn G.hts q400 ct_1 dX3_weighs_45 ?_
  refine s_astore G.b (by rw [G.nl]; decide) (fun _ _ => by rw [hC]) dX3_weighs_48 ?_
  refine s_aload G.b dX3_weighs_50 ?_
  exact (s_vsel (s_callF (r0 := (RX7, TX7, 4)) (w := ⟨"ChantRules$Arc", "weight", "()I"⟩) (by decide) rfl G (mX7_weight EN) q768 (va_Fw.moved (by decide +kernel) G.warm.alike ⟨(EN.nw q770 rfl), (EN.nw q769 rfl), (EN.nw q774 rfl), (EN.nw q772 rfl), (EN.nw q287 rfl)⟩) q771 q773 q99 q775 nmk_17 (rm_of hF (Nat.le_of_ble_eq_true rfl) (Nat.le_of_ble_eq_true rfl)) dX3_weighs_52 (tX3_weighs_57 EN G hF hC hxt) (sx_out G (fun z hz => (hxt z hz).elim)) ) (s_callF (r0 := (RX8, TX8, 5)) (w := ⟨"ChantRules$Arc", "weight", "()I"⟩) (by decide) rfl G (mX8_weight EN) q768 (va_Fw.moved (by decide +kernel) G.warm.alike ⟨(EN.nw q770 rfl), (EN.nw q769 rfl), (EN.nw q779 rfl), (EN.nw q777 rfl), (EN.nw q293 rfl)⟩) q776 q778 q100 q780 nmk_17 (rm_of hF (Nat.le_of_ble_eq_true rfl) (Nat.le_of_ble_eq_true rfl)) dX3_weighs_52 (tX3_weighs_57 EN G hF hC hxt) (sx_out G (fun z hz => (hxt z hz).elim)) ))
set_option maxHeartbeats 4000000 in
theorem tX3_weighs_26 {x : CX} {E : Nat → Value} {Q : Rs → HS → Prop} (EN : EX x E) (G : Gd x cX3_weighs "ChantRules$Rule" yX3_weighs 5 (Option.some Jvm.ClassFile.FieldType.int) Q) (hF : x.1.2.2.2.frames = 7 ∧ x.1.2.2.2.locals = 179) (hC : x.2.2.2.2.2 = (fun _ => false)) (hxt : (∀ z ∈ x.2.2.1.2.1.exceptionTable.toList, False)) : Snd x 26 (bX3_weighs_26 E Q) := by
  unfold bX3_weighs_26
  refine s_iconst (by decide) G.b dX3_weighs_26 ?_
  exact (tX3_weighs_27 EN G hF hC hxt)
set_option maxHeartbeats 4000000 in
theorem tX3_weighs_18 {x : CX} {E : Nat → Value} {Q : Rs → HS → Prop} (EN : EX x E) (G : Gd x cX3_weighs "ChantRules$Rule" yX3_weighs 5 (Option.some Jvm.ClassFile.FieldType.int) Q) (hF : x.1.2.2.2.frames = 7 ∧ x.1.2.2.2.locals = 179) (hC : x.2.2.2.2.2 = (fun _ => false)) (hxt : (∀ z ∈ x.2.2.1.2.1.exceptionTable.toList, False)) : Snd x 18 (bX3_weighs_18 E Q) := by
  unfold bX3_weighs_18
  refine s_iload_n rfl G.b dX3_weighs_18 ?_
  refine s_icmpne (tgt := 26) G.b dX3_weighs_19 (by decide) (tX3_weighs_26 EN G hF hC hxt) ?_
  refine s_iconst (by decide) G.b dX3_weighs_22 ?_
  exact s_goto (tgt := 27) G.b dX3_weighs_23 (by decide) (tX3_weighs_27 EN G hF hC hxt)
set_option maxHeartbeats 4000000 in
theorem tX3_weighs_0 {x : CX} {E : Nat → Value} {Q : Rs → HS → Prop} (EN : EX x E) (G : Gd x cX3_weighs "ChantRules$Rule" yX3_weighs 5 (Option.some Jvm.ClassFile.FieldType.int) Q) (hF : x.1.2.2.2.frames = 7 ∧ x.1.2.2.2.locals = 179) (hC : x.2.2.2.2.2 = (fun _ => false)) (hxt : (∀ z ∈ x.2.2.1.2.1.exceptionTable.toList, False)) : Snd x 0 (bX3_weighs_0 E Q) := by
  unfold bX3_weighs_0
  refine s_aload_n rfl G.b dX3_weighs_0 ?_
  refine s_getf G.b G.ow G.kn (G.hts _ q175) (fun _ h => h) fa_3 dX3_weighs_1 ?_
  refine s_iload_n rfl G.b dX3_weighs_4 ?_
  refine s_callV G (mJ2_get EN) q692 q693 (sel_cons (r := (RJ2, TJ2, 3)) (by decide) rfl q694 (sel_nil)) q82 q695 nmk_78 (rm_of hF (Nat.le_of_ble_eq_true rfl) (Nat.le_of_ble_eq_true rfl)) dX3_weighs_5 ?_ (sx_out G (fun z hz => (hxt z hz).elim))
  refine s_cast G.b G.ow G.kn G.hts q400 ct_1 dX3_weighs_8 ?_
  refine s_astore_n rfl G.b (by rw [G.nl]; decide) (fun _ _ => by rw [hC]) dX3_weighs_11 ?_
  refine s_aload_n rfl G.b dX3_weighs_12 ?_
  exact (s_vsel (s_callF (r0 := (RX7, TX7, 4)) (w := ⟨"ChantRules$Arc", "weight", "()I"⟩) (by decide) rfl G (mX7_weight EN) q768 (va_Fw.moved (by decide +kernel) G.warm.alike ⟨(EN.nw q770 rfl), (EN.nw q769 rfl), (EN.nw q774 rfl), (EN.nw q772 rfl), (EN.nw q287 rfl)⟩) q771 q773 q99 q775 nmk_17 (rm_of hF (Nat.le_of_ble_eq_true rfl) (Nat.le_of_ble_eq_true rfl)) dX3_weighs_13 (tX3_weighs_18 EN G hF hC hxt) (sx_out G (fun z hz => (hxt z hz).elim)) ) (s_callF (r0 := (RX8, TX8, 5)) (w := ⟨"ChantRules$Arc", "weight", "()I"⟩) (by decide) rfl G (mX8_weight EN) q768 (va_Fw.moved (by decide +kernel) G.warm.alike ⟨(EN.nw q770 rfl), (EN.nw q769 rfl), (EN.nw q779 rfl), (EN.nw q777 rfl), (EN.nw q293 rfl)⟩) q776 q778 q100 q780 nmk_17 (rm_of hF (Nat.le_of_ble_eq_true rfl) (Nat.le_of_ble_eq_true rfl)) dX3_weighs_13 (tX3_weighs_18 EN G hF hC hxt) (sx_out G (fun z hz => (hxt z hz).elim)) ))
set_option maxHeartbeats 4000000 in
theorem mX3_weighs {l : Launch} {D : DE} {s0 : State} {E : Nat → Value} (EN : EV l D s0 E) : rMet l D s0 yX3_weighs (ws_ yX3_weighs cX3_weighs 5 (Option.some Jvm.ClassFile.FieldType.int)) 7 179 (wX3_weighs E) := by
  refine body_met (fun _ => false) EN.kn (fun w h => h) (by decide +kernel) rfl (fun av h Q hw => ?_) ?_
  · unfold wX3_weighs at hw
    split at hw
    · exact Nat.le_of_ble_eq_true rfl
    · exact hw.elim
  · intro p e s m below meth c av h Q hxt G hw
    unfold wX3_weighs at hw
    split at hw
    · exact tX3_weighs_0 EN G ⟨rfl, rfl⟩ rfl hxt _ _ _ hw
    · exact hw.elim
/-! ChantRules$Command.isDone(LChantRules$Choir;)Z (X14_isDone) -/
theorem nmk_142 : nm_ok yX1_turns 1 := ⟨by decide +kernel, by decide +kernel, by decide +kernel⟩
theorem nmk_143 : nm_ok yX1_drops 2 := ⟨by decide +kernel, by decide +kernel, by decide +kernel⟩
theorem nmk_144 : nm_ok yX3_weighs 2 := ⟨by decide +kernel, by decide +kernel, by decide +kernel⟩
theorem nmk_145 : nm_ok yX14_isArcDone 1 := ⟨by decide +kernel, by decide +kernel, by decide +kernel⟩
theorem nmk_146 : nm_ok yX3_ends 2 := ⟨by decide +kernel, by decide +kernel, by decide +kernel⟩
theorem nmk_147 : nm_ok yX3_tells 0 := ⟨by decide +kernel, by decide +kernel, by decide +kernel⟩
theorem fa_61 : fieldAt [7] 0 "ChantRules$Command" "word" "C" := fa_cons (r := (RX14, TX14, 7)) rfl (by decide) rfl rfl rfl (fa_nil)
def bX14_isDone_253 (E : Nat → Value) (Q : Rs → HS → Prop) : Ct :=
  o_ireturn .boolean Q
def bX14_isDone_252 (E : Nat → Value) (Q : Rs → HS → Prop) : Ct :=
  o_push (.int 0) <|
  (bX14_isDone_253 E Q)
def bX14_isDone_227 (E : Nat → Value) (Q : Rs → HS → Prop) : Ct :=
  o_aload 0 <|
  o_getf [7] 1 <|
  o_call 1 (wX0_isRule E) (x_out Q) <|
  o_ifeq (bX14_isDone_252 E Q) <|
  o_aload 1 <|
  o_aload 0 <|
  o_getf [7] 1 <|
  o_callV [1] 2 (wX1_turns E) (x_out Q) <|
  o_iflt (bX14_isDone_252 E Q) <|
  o_push (.int 1) <|
  (bX14_isDone_253 E Q)
def bX14_isDone_226 (E : Nat → Value) (Q : Rs → HS → Prop) : Ct :=
  o_ireturn .boolean Q
def bX14_isDone_225 (E : Nat → Value) (Q : Rs → HS → Prop) : Ct :=
  o_push (.int 0) <|
  (bX14_isDone_226 E Q)
def bX14_isDone_191 (E : Nat → Value) (Q : Rs → HS → Prop) : Ct :=
  o_aload 1 <|
  o_aload 0 <|
  o_getf [7] 1 <|
  o_aload 0 <|
  o_getf [7] 2 <|
  o_callV [1] 3 (wX1_isArc E) (x_out Q) <|
  o_ifeq (bX14_isDone_225 E Q) <|
  o_aload 1 <|
  o_aload 0 <|
  o_getf [7] 1 <|
  o_aload 0 <|
  o_getf [7] 2 <|
  o_callV [1] 3 (wX1_drops E) (x_out Q) <|
  o_iflt (bX14_isDone_225 E Q) <|
  o_push (.int 1) <|
  (bX14_isDone_226 E Q)
def bX14_isDone_190 (E : Nat → Value) (Q : Rs → HS → Prop) : Ct :=
  o_ireturn .boolean Q
def bX14_isDone_189 (E : Nat → Value) (Q : Rs → HS → Prop) : Ct :=
  o_push (.int 0) <|
  (bX14_isDone_190 E Q)
def bX14_isDone_137 (E : Nat → Value) (Q : Rs → HS → Prop) : Ct :=
  o_aload 1 <|
  o_aload 0 <|
  o_getf [7] 1 <|
  o_aload 0 <|
  o_getf [7] 2 <|
  o_callV [1] 3 (wX1_isArc E) (x_out Q) <|
  o_ifeq (bX14_isDone_189 E Q) <|
  o_aload 0 <|
  o_getf [7] 6 <|
  o_call 1 (wX0_isWeight E) (x_out Q) <|
  o_ifeq (bX14_isDone_189 E Q) <|
  o_aload 1 <|
  o_getf [1] 0 <|
  o_aload 0 <|
  o_getf [7] 1 <|
  o_ald [103, 104, 105, 106, 107] <|
  o_aload 0 <|
  o_getf [7] 2 <|
  o_aload 0 <|
  o_getf [7] 6 <|
  o_callV [2] 3 (wX3_weighs E) (x_out Q) <|
  o_iflt (bX14_isDone_189 E Q) <|
  o_push (.int 1) <|
  (bX14_isDone_190 E Q)
def bX14_isDone_131 (E : Nat → Value) (Q : Rs → HS → Prop) : Ct :=
  o_aload 0 <|
  o_aload 1 <|
  o_callV [7] 2 (wX14_isArcDone E) (x_out Q) <|
  o_ireturn .boolean Q
def bX14_isDone_130 (E : Nat → Value) (Q : Rs → HS → Prop) : Ct :=
  o_ireturn .boolean Q
def bX14_isDone_129 (E : Nat → Value) (Q : Rs → HS → Prop) : Ct :=
  o_push (.int 0) <|
  (bX14_isDone_130 E Q)
def bX14_isDone_87 (E : Nat → Value) (Q : Rs → HS → Prop) : Ct :=
  o_aload 1 <|
  o_aload 0 <|
  o_getf [7] 1 <|
  o_aload 0 <|
  o_getf [7] 2 <|
  o_callV [1] 3 (wX1_isState E) (x_out Q) <|
  o_ifeq (bX14_isDone_129 E Q) <|
  o_aload 1 <|
  o_getf [1] 0 <|
  o_aload 0 <|
  o_getf [7] 1 <|
  o_ald [103, 104, 105, 106, 107] <|
  o_aload 0 <|
  o_getf [7] 2 <|
  o_aload 0 <|
  o_getf [7] 6 <|
  o_callV [2] 3 (wX3_ends E) (x_out Q) <|
  o_iflt (bX14_isDone_129 E Q) <|
  o_push (.int 1) <|
  (bX14_isDone_130 E Q)
def bX14_isDone_86 (E : Nat → Value) (Q : Rs → HS → Prop) : Ct :=
  o_ireturn .boolean Q
def bX14_isDone_85 (E : Nat → Value) (Q : Rs → HS → Prop) : Ct :=
  o_push (.int 0) <|
  (bX14_isDone_86 E Q)
def bX14_isDone_56 (E : Nat → Value) (Q : Rs → HS → Prop) : Ct :=
  o_aload 0 <|
  o_getf [7] 1 <|
  o_call 1 (wX0_isRule E) (x_out Q) <|
  o_ifeq (bX14_isDone_85 E Q) <|
  o_aload 1 <|
  o_getf [1] 0 <|
  o_aload 0 <|
  o_getf [7] 1 <|
  o_ald [103, 104, 105, 106, 107] <|
  o_callV [2] 1 (wX3_tells E) (x_out Q) <|
  o_iflt (bX14_isDone_85 E Q) <|
  o_push (.int 1) <|
  (bX14_isDone_86 E Q)
def bX14_isDone_0 (E : Nat → Value) (Q : Rs → HS → Prop) : Ct :=
  o_aload 0 <|
  o_getf [7] 0 <|
  o_sw [(97, (bX14_isDone_131 E Q)), (100, (bX14_isDone_191 E Q)), (102, (bX14_isDone_87 E Q)), (115, (bX14_isDone_56 E Q)), (119, (bX14_isDone_137 E Q))] (bX14_isDone_227 E Q)
def wX14_isDone (E : Nat → Value) : Wp := fun av h Q => match av with
  | [a0, a1] => bX14_isDone_0 E Q [a0, a1] [] h
  | _ => False
set_option maxHeartbeats 4000000 in
theorem tX14_isDone_253 {x : CX} {E : Nat → Value} {Q : Rs → HS → Prop} (EN : EX x E) (G : Gd x cX14_isDone "ChantRules$Command" yX14_isDone 2 (Option.some Jvm.ClassFile.FieldType.boolean) Q) (hF : x.1.2.2.2.frames = 17 ∧ x.1.2.2.2.locals = 398) (hC : x.2.2.2.2.2 = (fun _ => false)) (hxt : (∀ z ∈ x.2.2.1.2.1.exceptionTable.toList, False)) : Snd x 253 (bX14_isDone_253 E Q) := by
  unfold bX14_isDone_253
  exact s_ireturn G dX14_isDone_253
set_option maxHeartbeats 4000000 in
theorem tX14_isDone_252 {x : CX} {E : Nat → Value} {Q : Rs → HS → Prop} (EN : EX x E) (G : Gd x cX14_isDone "ChantRules$Command" yX14_isDone 2 (Option.some Jvm.ClassFile.FieldType.boolean) Q) (hF : x.1.2.2.2.frames = 17 ∧ x.1.2.2.2.locals = 398) (hC : x.2.2.2.2.2 = (fun _ => false)) (hxt : (∀ z ∈ x.2.2.1.2.1.exceptionTable.toList, False)) : Snd x 252 (bX14_isDone_252 E Q) := by
  unfold bX14_isDone_252
  refine s_iconst (by decide) G.b dX14_isDone_252 ?_
  exact (tX14_isDone_253 EN G hF hC hxt)
set_option maxHeartbeats 4000000 in
theorem tX14_isDone_227 {x : CX} {E : Nat → Value} {Q : Rs → HS → Prop} (EN : EX x E) (G : Gd x cX14_isDone "ChantRules$Command" yX14_isDone 2 (Option.some Jvm.ClassFile.FieldType.boolean) Q) (hF : x.1.2.2.2.frames = 17 ∧ x.1.2.2.2.locals = 398) (hC : x.2.2.2.2.2 = (fun _ => false)) (hxt : (∀ z ∈ x.2.2.1.2.1.exceptionTable.toList, False)) : Snd x 227 (bX14_isDone_227 E Q) := by
  unfold bX14_isDone_227
  refine s_aload_n rfl G.b dX14_isDone_227 ?_
  refine s_getf G.b G.ow G.kn (G.hts _ q1589) (fun _ h => h) fa_55 dX14_isDone_228 ?_
  refine s_callSN G (mX0_isRule EN) (va_Nw.use rfl (va_Nw.warmM G.warm (EN.nw q1697 rfl))) q337 q76 q338 nmk_66 (rm_of hF (Nat.le_of_ble_eq_true rfl) (Nat.le_of_ble_eq_true rfl)) dX14_isDone_231 ?_ (sx_out G (fun z hz => (hxt z hz).elim))
  refine s_ifeq (tgt := 252) G.b dX14_isDone_234 (by decide) (tX14_isDone_252 EN G hF hC hxt) ?_
  refine s_aload_n rfl G.b dX14_isDone_237 ?_
  refine s_aload_n rfl G.b dX14_isDone_238 ?_
  refine s_getf G.b G.ow G.kn (G.hts _ q1589) (fun _ h => h) fa_55 dX14_isDone_239 ?_
  refine s_callV G (mX1_turns EN) q1711 q814 (sel_cons (r := (RX1, TX1, 4)) (by decide) rfl q815 (sel_nil)) q77 q816 nmk_142 (rm_of hF (Nat.le_of_ble_eq_true rfl) (Nat.le_of_ble_eq_true rfl)) dX14_isDone_242 ?_ (sx_out G (fun z hz => (hxt z hz).elim))
  refine s_iflt (tgt := 252) G.b dX14_isDone_245 (by decide) (tX14_isDone_252 EN G hF hC hxt) ?_
  refine s_iconst (by decide) G.b dX14_isDone_248 ?_
  exact s_goto (tgt := 253) G.b dX14_isDone_249 (by decide) (tX14_isDone_253 EN G hF hC hxt)
set_option maxHeartbeats 4000000 in
theorem tX14_isDone_226 {x : CX} {E : Nat → Value} {Q : Rs → HS → Prop} (EN : EX x E) (G : Gd x cX14_isDone "ChantRules$Command" yX14_isDone 2 (Option.some Jvm.ClassFile.FieldType.boolean) Q) (hF : x.1.2.2.2.frames = 17 ∧ x.1.2.2.2.locals = 398) (hC : x.2.2.2.2.2 = (fun _ => false)) (hxt : (∀ z ∈ x.2.2.1.2.1.exceptionTable.toList, False)) : Snd x 226 (bX14_isDone_226 E Q) := by
  unfold bX14_isDone_226
  exact s_ireturn G dX14_isDone_226
set_option maxHeartbeats 4000000 in
theorem tX14_isDone_225 {x : CX} {E : Nat → Value} {Q : Rs → HS → Prop} (EN : EX x E) (G : Gd x cX14_isDone "ChantRules$Command" yX14_isDone 2 (Option.some Jvm.ClassFile.FieldType.boolean) Q) (hF : x.1.2.2.2.frames = 17 ∧ x.1.2.2.2.locals = 398) (hC : x.2.2.2.2.2 = (fun _ => false)) (hxt : (∀ z ∈ x.2.2.1.2.1.exceptionTable.toList, False)) : Snd x 225 (bX14_isDone_225 E Q) := by
  unfold bX14_isDone_225
  refine s_iconst (by decide) G.b dX14_isDone_225 ?_
  exact (tX14_isDone_226 EN G hF hC hxt)
set_option maxHeartbeats 4000000 in
theorem tX14_isDone_191 {x : CX} {E : Nat → Value} {Q : Rs → HS → Prop} (EN : EX x E) (G : Gd x cX14_isDone "ChantRules$Command" yX14_isDone 2 (Option.some Jvm.ClassFile.FieldType.boolean) Q) (hF : x.1.2.2.2.frames = 17 ∧ x.1.2.2.2.locals = 398) (hC : x.2.2.2.2.2 = (fun _ => false)) (hxt : (∀ z ∈ x.2.2.1.2.1.exceptionTable.toList, False)) : Snd x 191 (bX14_isDone_191 E Q) := by
  unfold bX14_isDone_191
  refine s_aload_n rfl G.b dX14_isDone_191 ?_
  refine s_aload_n rfl G.b dX14_isDone_192 ?_
  refine s_getf G.b G.ow G.kn (G.hts _ q1589) (fun _ h => h) fa_55 dX14_isDone_193 ?_
  refine s_aload_n rfl G.b dX14_isDone_196 ?_
  refine s_getf G.b G.ow G.kn (G.hts _ q1591) (fun _ h => h) fa_56 dX14_isDone_197 ?_
  refine s_callV G (mX1_isArc EN) q1708 q756 (sel_cons (r := (RX1, TX1, 4)) (by decide) rfl q757 (sel_nil)) q77 q758 nmk_90 (rm_of hF (Nat.le_of_ble_eq_true rfl) (Nat.le_of_ble_eq_true rfl)) dX14_isDone_200 ?_ (sx_out G (fun z hz => (hxt z hz).elim))
  refine s_ifeq (tgt := 225) G.b dX14_isDone_203 (by decide) (tX14_isDone_225 EN G hF hC hxt) ?_
  refine s_aload_n rfl G.b dX14_isDone_206 ?_
  refine s_aload_n rfl G.b dX14_isDone_207 ?_
  refine s_getf G.b G.ow G.kn (G.hts _ q1589) (fun _ h => h) fa_55 dX14_isDone_208 ?_
  refine s_aload_n rfl G.b dX14_isDone_211 ?_
  refine s_getf G.b G.ow G.kn (G.hts _ q1591) (fun _ h => h) fa_56 dX14_isDone_212 ?_
  refine s_callV G (mX1_drops EN) q1710 q793 (sel_cons (r := (RX1, TX1, 4)) (by decide) rfl q794 (sel_nil)) q77 q795 nmk_143 (rm_of hF (Nat.le_of_ble_eq_true rfl) (Nat.le_of_ble_eq_true rfl)) dX14_isDone_215 ?_ (sx_out G (fun z hz => (hxt z hz).elim))
  refine s_iflt (tgt := 225) G.b dX14_isDone_218 (by decide) (tX14_isDone_225 EN G hF hC hxt) ?_
  refine s_iconst (by decide) G.b dX14_isDone_221 ?_
  exact s_goto (tgt := 226) G.b dX14_isDone_222 (by decide) (tX14_isDone_226 EN G hF hC hxt)
set_option maxHeartbeats 4000000 in
theorem tX14_isDone_190 {x : CX} {E : Nat → Value} {Q : Rs → HS → Prop} (EN : EX x E) (G : Gd x cX14_isDone "ChantRules$Command" yX14_isDone 2 (Option.some Jvm.ClassFile.FieldType.boolean) Q) (hF : x.1.2.2.2.frames = 17 ∧ x.1.2.2.2.locals = 398) (hC : x.2.2.2.2.2 = (fun _ => false)) (hxt : (∀ z ∈ x.2.2.1.2.1.exceptionTable.toList, False)) : Snd x 190 (bX14_isDone_190 E Q) := by
  unfold bX14_isDone_190
  exact s_ireturn G dX14_isDone_190
set_option maxHeartbeats 4000000 in
theorem tX14_isDone_189 {x : CX} {E : Nat → Value} {Q : Rs → HS → Prop} (EN : EX x E) (G : Gd x cX14_isDone "ChantRules$Command" yX14_isDone 2 (Option.some Jvm.ClassFile.FieldType.boolean) Q) (hF : x.1.2.2.2.frames = 17 ∧ x.1.2.2.2.locals = 398) (hC : x.2.2.2.2.2 = (fun _ => false)) (hxt : (∀ z ∈ x.2.2.1.2.1.exceptionTable.toList, False)) : Snd x 189 (bX14_isDone_189 E Q) := by
  unfold bX14_isDone_189
  refine s_iconst (by decide) G.b dX14_isDone_189 ?_
  exact (tX14_isDone_190 EN G hF hC hxt)
set_option maxHeartbeats 4000000 in
theorem tX14_isDone_137 {x : CX} {E : Nat → Value} {Q : Rs → HS → Prop} (EN : EX x E) (G : Gd x cX14_isDone "ChantRules$Command" yX14_isDone 2 (Option.some Jvm.ClassFile.FieldType.boolean) Q) (hF : x.1.2.2.2.frames = 17 ∧ x.1.2.2.2.locals = 398) (hC : x.2.2.2.2.2 = (fun _ => false)) (hxt : (∀ z ∈ x.2.2.1.2.1.exceptionTable.toList, False)) : Snd x 137 (bX14_isDone_137 E Q) := by
  unfold bX14_isDone_137
  refine s_aload_n rfl G.b dX14_isDone_137 ?_
  refine s_aload_n rfl G.b dX14_isDone_138 ?_
  refine s_getf G.b G.ow G.kn (G.hts _ q1589) (fun _ h => h) fa_55 dX14_isDone_139 ?_
  refine s_aload_n rfl G.b dX14_isDone_142 ?_
  refine s_getf G.b G.ow G.kn (G.hts _ q1591) (fun _ h => h) fa_56 dX14_isDone_143 ?_
  refine s_callV G (mX1_isArc EN) q1708 q756 (sel_cons (r := (RX1, TX1, 4)) (by decide) rfl q757 (sel_nil)) q77 q758 nmk_90 (rm_of hF (Nat.le_of_ble_eq_true rfl) (Nat.le_of_ble_eq_true rfl)) dX14_isDone_146 ?_ (sx_out G (fun z hz => (hxt z hz).elim))
  refine s_ifeq (tgt := 189) G.b dX14_isDone_149 (by decide) (tX14_isDone_189 EN G hF hC hxt) ?_
  refine s_aload_n rfl G.b dX14_isDone_152 ?_
  refine s_getf G.b G.ow G.kn (G.hts _ q1599) (fun _ h => h) fa_60 dX14_isDone_153 ?_
  refine s_callSN G (mX0_isWeight EN) (va_Nw.use rfl (va_Nw.warmM G.warm (EN.nw q1705 rfl))) q613 q76 q614 nmk_87 (rm_of hF (Nat.le_of_ble_eq_true rfl) (Nat.le_of_ble_eq_true rfl)) dX14_isDone_156 ?_ (sx_out G (fun z hz => (hxt z hz).elim))
  refine s_ifeq (tgt := 189) G.b dX14_isDone_159 (by decide) (tX14_isDone_189 EN G hF hC hxt) ?_
  refine s_aload_n rfl G.b dX14_isDone_162 ?_
  refine s_getfN G.b G.ow G.kn (va_Nw.use rfl (va_Nw.warmF G.warm (EN.nw q193 rfl))) (fun _ h => h) fa_5 dX14_isDone_163 ?_
  refine s_aload_n rfl G.b dX14_isDone_166 ?_
  refine s_getf G.b G.ow G.kn (G.hts _ q1589) (fun _ h => h) fa_55 dX14_isDone_167 ?_
  refine s_aald G.b G.kn dX14_isDone_170 ?_
  refine s_aload_n rfl G.b dX14_isDone_171 ?_
  refine s_getf G.b G.ow G.kn (G.hts _ q1591) (fun _ h => h) fa_56 dX14_isDone_172 ?_
  refine s_aload_n rfl G.b dX14_isDone_175 ?_
  refine s_getf G.b G.ow G.kn (G.hts _ q1599) (fun _ h => h) fa_60 dX14_isDone_176 ?_
  refine s_callV G (mX3_weighs EN) q1709 q764 (sel_cons (r := (RX3, TX3, 3)) (by decide) rfl q765 (sel_nil)) q79 q766 nmk_144 (rm_of hF (Nat.le_of_ble_eq_true rfl) (Nat.le_of_ble_eq_true rfl)) dX14_isDone_179 ?_ (sx_out G (fun z hz => (hxt z hz).elim))
  refine s_iflt (tgt := 189) G.b dX14_isDone_182 (by decide) (tX14_isDone_189 EN G hF hC hxt) ?_
  refine s_iconst (by decide) G.b dX14_isDone_185 ?_
  exact s_goto (tgt := 190) G.b dX14_isDone_186 (by decide) (tX14_isDone_190 EN G hF hC hxt)
set_option maxHeartbeats 4000000 in
theorem tX14_isDone_131 {x : CX} {E : Nat → Value} {Q : Rs → HS → Prop} (EN : EX x E) (G : Gd x cX14_isDone "ChantRules$Command" yX14_isDone 2 (Option.some Jvm.ClassFile.FieldType.boolean) Q) (hF : x.1.2.2.2.frames = 17 ∧ x.1.2.2.2.locals = 398) (hC : x.2.2.2.2.2 = (fun _ => false)) (hxt : (∀ z ∈ x.2.2.1.2.1.exceptionTable.toList, False)) : Snd x 131 (bX14_isDone_131 E Q) := by
  unfold bX14_isDone_131
  refine s_aload_n rfl G.b dX14_isDone_131 ?_
  refine s_aload_n rfl G.b dX14_isDone_132 ?_
  refine s_callV G (mX14_isArcDone EN) q1701 q1703 (sel_cons (r := (RX14, TX14, 7)) (by decide) rfl qs31 (sel_nil)) q112 q1704 nmk_145 (rm_of hF (Nat.le_of_ble_eq_true rfl) (Nat.le_of_ble_eq_true rfl)) dX14_isDone_133 ?_ (sx_out G (fun z hz => (hxt z hz).elim))
  exact s_ireturn G dX14_isDone_136
set_option maxHeartbeats 4000000 in
theorem tX14_isDone_130 {x : CX} {E : Nat → Value} {Q : Rs → HS → Prop} (EN : EX x E) (G : Gd x cX14_isDone "ChantRules$Command" yX14_isDone 2 (Option.some Jvm.ClassFile.FieldType.boolean) Q) (hF : x.1.2.2.2.frames = 17 ∧ x.1.2.2.2.locals = 398) (hC : x.2.2.2.2.2 = (fun _ => false)) (hxt : (∀ z ∈ x.2.2.1.2.1.exceptionTable.toList, False)) : Snd x 130 (bX14_isDone_130 E Q) := by
  unfold bX14_isDone_130
  exact s_ireturn G dX14_isDone_130
set_option maxHeartbeats 4000000 in
theorem tX14_isDone_129 {x : CX} {E : Nat → Value} {Q : Rs → HS → Prop} (EN : EX x E) (G : Gd x cX14_isDone "ChantRules$Command" yX14_isDone 2 (Option.some Jvm.ClassFile.FieldType.boolean) Q) (hF : x.1.2.2.2.frames = 17 ∧ x.1.2.2.2.locals = 398) (hC : x.2.2.2.2.2 = (fun _ => false)) (hxt : (∀ z ∈ x.2.2.1.2.1.exceptionTable.toList, False)) : Snd x 129 (bX14_isDone_129 E Q) := by
  unfold bX14_isDone_129
  refine s_iconst (by decide) G.b dX14_isDone_129 ?_
  exact (tX14_isDone_130 EN G hF hC hxt)
set_option maxHeartbeats 4000000 in
theorem tX14_isDone_87 {x : CX} {E : Nat → Value} {Q : Rs → HS → Prop} (EN : EX x E) (G : Gd x cX14_isDone "ChantRules$Command" yX14_isDone 2 (Option.some Jvm.ClassFile.FieldType.boolean) Q) (hF : x.1.2.2.2.frames = 17 ∧ x.1.2.2.2.locals = 398) (hC : x.2.2.2.2.2 = (fun _ => false)) (hxt : (∀ z ∈ x.2.2.1.2.1.exceptionTable.toList, False)) : Snd x 87 (bX14_isDone_87 E Q) := by
  unfold bX14_isDone_87
  refine s_aload_n rfl G.b dX14_isDone_87 ?_
  refine s_aload_n rfl G.b dX14_isDone_88 ?_
  refine s_getf G.b G.ow G.kn (G.hts _ q1589) (fun _ h => h) fa_55 dX14_isDone_89 ?_
  refine s_aload_n rfl G.b dX14_isDone_92 ?_
  refine s_getf G.b G.ow G.kn (G.hts _ q1591) (fun _ h => h) fa_56 dX14_isDone_93 ?_
  refine s_callV G (mX1_isState EN) q1699 q603 (sel_cons (r := (RX1, TX1, 4)) (by decide) rfl q604 (sel_nil)) q77 q605 nmk_88 (rm_of hF (Nat.le_of_ble_eq_true rfl) (Nat.le_of_ble_eq_true rfl)) dX14_isDone_96 ?_ (sx_out G (fun z hz => (hxt z hz).elim))
  refine s_ifeq (tgt := 129) G.b dX14_isDone_99 (by decide) (tX14_isDone_129 EN G hF hC hxt) ?_
  refine s_aload_n rfl G.b dX14_isDone_102 ?_
  refine s_getfN G.b G.ow G.kn (va_Nw.use rfl (va_Nw.warmF G.warm (EN.nw q193 rfl))) (fun _ h => h) fa_5 dX14_isDone_103 ?_
  refine s_aload_n rfl G.b dX14_isDone_106 ?_
  refine s_getf G.b G.ow G.kn (G.hts _ q1589) (fun _ h => h) fa_55 dX14_isDone_107 ?_
  refine s_aald G.b G.kn dX14_isDone_110 ?_
  refine s_aload_n rfl G.b dX14_isDone_111 ?_
  refine s_getf G.b G.ow G.kn (G.hts _ q1591) (fun _ h => h) fa_56 dX14_isDone_112 ?_
  refine s_aload_n rfl G.b dX14_isDone_115 ?_
  refine s_getf G.b G.ow G.kn (G.hts _ q1599) (fun _ h => h) fa_60 dX14_isDone_116 ?_
  refine s_callV G (mX3_ends EN) q1700 q616 (sel_cons (r := (RX3, TX3, 3)) (by decide) rfl q617 (sel_nil)) q79 q618 nmk_146 (rm_of hF (Nat.le_of_ble_eq_true rfl) (Nat.le_of_ble_eq_true rfl)) dX14_isDone_119 ?_ (sx_out G (fun z hz => (hxt z hz).elim))
  refine s_iflt (tgt := 129) G.b dX14_isDone_122 (by decide) (tX14_isDone_129 EN G hF hC hxt) ?_
  refine s_iconst (by decide) G.b dX14_isDone_125 ?_
  exact s_goto (tgt := 130) G.b dX14_isDone_126 (by decide) (tX14_isDone_130 EN G hF hC hxt)
set_option maxHeartbeats 4000000 in
theorem tX14_isDone_86 {x : CX} {E : Nat → Value} {Q : Rs → HS → Prop} (EN : EX x E) (G : Gd x cX14_isDone "ChantRules$Command" yX14_isDone 2 (Option.some Jvm.ClassFile.FieldType.boolean) Q) (hF : x.1.2.2.2.frames = 17 ∧ x.1.2.2.2.locals = 398) (hC : x.2.2.2.2.2 = (fun _ => false)) (hxt : (∀ z ∈ x.2.2.1.2.1.exceptionTable.toList, False)) : Snd x 86 (bX14_isDone_86 E Q) := by
  unfold bX14_isDone_86
  exact s_ireturn G dX14_isDone_86
set_option maxHeartbeats 4000000 in
theorem tX14_isDone_85 {x : CX} {E : Nat → Value} {Q : Rs → HS → Prop} (EN : EX x E) (G : Gd x cX14_isDone "ChantRules$Command" yX14_isDone 2 (Option.some Jvm.ClassFile.FieldType.boolean) Q) (hF : x.1.2.2.2.frames = 17 ∧ x.1.2.2.2.locals = 398) (hC : x.2.2.2.2.2 = (fun _ => false)) (hxt : (∀ z ∈ x.2.2.1.2.1.exceptionTable.toList, False)) : Snd x 85 (bX14_isDone_85 E Q) := by
  unfold bX14_isDone_85
  refine s_iconst (by decide) G.b dX14_isDone_85 ?_
  exact (tX14_isDone_86 EN G hF hC hxt)
set_option maxHeartbeats 4000000 in
theorem tX14_isDone_56 {x : CX} {E : Nat → Value} {Q : Rs → HS → Prop} (EN : EX x E) (G : Gd x cX14_isDone "ChantRules$Command" yX14_isDone 2 (Option.some Jvm.ClassFile.FieldType.boolean) Q) (hF : x.1.2.2.2.frames = 17 ∧ x.1.2.2.2.locals = 398) (hC : x.2.2.2.2.2 = (fun _ => false)) (hxt : (∀ z ∈ x.2.2.1.2.1.exceptionTable.toList, False)) : Snd x 56 (bX14_isDone_56 E Q) := by
  unfold bX14_isDone_56
  refine s_aload_n rfl G.b dX14_isDone_56 ?_
  refine s_getf G.b G.ow G.kn (G.hts _ q1589) (fun _ h => h) fa_55 dX14_isDone_57 ?_
  refine s_callSN G (mX0_isRule EN) (va_Nw.use rfl (va_Nw.warmM G.warm (EN.nw q1697 rfl))) q337 q76 q338 nmk_66 (rm_of hF (Nat.le_of_ble_eq_true rfl) (Nat.le_of_ble_eq_true rfl)) dX14_isDone_60 ?_ (sx_out G (fun z hz => (hxt z hz).elim))
  refine s_ifeq (tgt := 85) G.b dX14_isDone_63 (by decide) (tX14_isDone_85 EN G hF hC hxt) ?_
  refine s_aload_n rfl G.b dX14_isDone_66 ?_
  refine s_getfN G.b G.ow G.kn (va_Nw.use rfl (va_Nw.warmF G.warm (EN.nw q193 rfl))) (fun _ h => h) fa_5 dX14_isDone_67 ?_
  refine s_aload_n rfl G.b dX14_isDone_70 ?_
  refine s_getf G.b G.ow G.kn (G.hts _ q1589) (fun _ h => h) fa_55 dX14_isDone_71 ?_
  refine s_aald G.b G.kn dX14_isDone_74 ?_
  refine s_callV G (mX3_tells EN) q1698 q471 (sel_cons (r := (RX3, TX3, 3)) (by decide) rfl q472 (sel_nil)) q79 q473 nmk_147 (rm_of hF (Nat.le_of_ble_eq_true rfl) (Nat.le_of_ble_eq_true rfl)) dX14_isDone_75 ?_ (sx_out G (fun z hz => (hxt z hz).elim))
  refine s_iflt (tgt := 85) G.b dX14_isDone_78 (by decide) (tX14_isDone_85 EN G hF hC hxt) ?_
  refine s_iconst (by decide) G.b dX14_isDone_81 ?_
  exact s_goto (tgt := 86) G.b dX14_isDone_82 (by decide) (tX14_isDone_86 EN G hF hC hxt)
set_option maxHeartbeats 4000000 in
theorem tX14_isDone_0 {x : CX} {E : Nat → Value} {Q : Rs → HS → Prop} (EN : EX x E) (G : Gd x cX14_isDone "ChantRules$Command" yX14_isDone 2 (Option.some Jvm.ClassFile.FieldType.boolean) Q) (hF : x.1.2.2.2.frames = 17 ∧ x.1.2.2.2.locals = 398) (hC : x.2.2.2.2.2 = (fun _ => false)) (hxt : (∀ z ∈ x.2.2.1.2.1.exceptionTable.toList, False)) : Snd x 0 (bX14_isDone_0 E Q) := by
  unfold bX14_isDone_0
  refine s_aload_n rfl G.b dX14_isDone_0 ?_
  refine s_getf G.b G.ow G.kn (G.hts _ q1587) (fun _ h => h) fa_61 dX14_isDone_1 ?_
  exact s_lsw (tD := 227) G.b dX14_isDone_4 (by decide) (by decide) (tX14_isDone_227 EN G hF hC hxt) rfl (lsw_cons 131 (by decide) (by decide) (tX14_isDone_131 EN G hF hC hxt) (lsw_cons 191 (by decide) (by decide) (tX14_isDone_191 EN G hF hC hxt) (lsw_cons 87 (by decide) (by decide) (tX14_isDone_87 EN G hF hC hxt) (lsw_cons 56 (by decide) (by decide) (tX14_isDone_56 EN G hF hC hxt) (lsw_cons 137 (by decide) (by decide) (tX14_isDone_137 EN G hF hC hxt) (lsw_nil))))))
set_option maxHeartbeats 4000000 in
theorem mX14_isDone {l : Launch} {D : DE} {s0 : State} {E : Nat → Value} (EN : EV l D s0 E) : rMet l D s0 yX14_isDone (ws_ yX14_isDone cX14_isDone 2 (Option.some Jvm.ClassFile.FieldType.boolean)) 17 398 (wX14_isDone E) := by
  refine body_met (fun _ => false) EN.kn (fun w h => h) (by decide +kernel) rfl (fun av h Q hw => ?_) ?_
  · unfold wX14_isDone at hw
    split at hw
    · exact Nat.le_of_ble_eq_true rfl
    · exact hw.elim
  · intro p e s m below meth c av h Q hxt G hw
    unfold wX14_isDone at hw
    split at hw
    · exact tX14_isDone_0 EN G ⟨rfl, rfl⟩ rfl hxt _ _ _ hw
    · exact hw.elim
/-! ChantRules.carryOut(LChantRules$Command;LChantRules$Choir;I)V (X0_carryOut) -/
theorem nmk_148 : nm_ok yX14_isDone 1 := ⟨by decide +kernel, by decide +kernel, by decide +kernel⟩
def bX0_carryOut_44 (E : Nat → Value) (Q : Rs → HS → Prop) : Ct :=
  o_return Q
def bX0_carryOut_40 (E : Nat → Value) (Q : Rs → HS → Prop) : Ct :=
  o_callI 4 (wX6_init_2 E) (x_out Q) <|
  o_athrow (x_out Q)
def bX0_carryOut_39 (E : Nat → Value) (Q : Rs → HS → Prop) : Ct :=
  o_aload 3 <|
  (bX0_carryOut_40 E Q)
def bX0_carryOut_21 (E : Nat → Value) (Q : Rs → HS → Prop) : Ct :=
  o_astore 3 <|
  o_new 9 8 [.null, .null, .null, .null, .null, .int 0, .int 0, .int 0] <|
  o_dup <|
  o_push (.int 5) <|
  o_iload 2 <|
  o_aload 3 <|
  o_getf [9] 6 <|
  o_ifne (bX0_carryOut_39 E Q) <|
  o_push .null <|
  (bX0_carryOut_40 E Q)
def bX0_carryOut_13 (E : Nat → Value) (Q : Rs → HS → Prop) : Ct :=
  o_push (.int 0) <|
  o_push (.int 0) <|
  o_call 3 (wX0_refuse E) (x_catch [9] (bX0_carryOut_21 E Q) x_no) <|
  (bX0_carryOut_44 E Q)
def bX0_carryOut_12 (E : Nat → Value) (Q : Rs → HS → Prop) : Ct :=
  o_push (.int 0) <|
  (bX0_carryOut_13 E Q)
def bX0_carryOut_0 (E : Nat → Value) (Q : Rs → HS → Prop) : Ct :=
  o_aload 0 <|
  o_aload 1 <|
  o_callV [7] 2 (wX14_isDone E) (x_catch [9] (bX0_carryOut_21 E Q) x_no) <|
  o_ifne (bX0_carryOut_12 E Q) <|
  o_push (.int 1) <|
  (bX0_carryOut_13 E Q)
def wX0_carryOut (E : Nat → Value) : Wp := fun av h Q => match av with
  | [a0, a1, a2] => bX0_carryOut_0 E Q [a0, a1, a2, jk] [] h
  | _ => False
set_option maxHeartbeats 4000000 in
theorem tX0_carryOut_44 {x : CX} {E : Nat → Value} {Q : Rs → HS → Prop} (EN : EX x E) (G : Gd x cX0_carryOut "ChantRules" yX0_carryOut 4 (Option.none : Option Jvm.ClassFile.FieldType) Q) (hF : x.1.2.2.2.frames = 18 ∧ x.1.2.2.2.locals = 419) (hC : x.2.2.2.2.2 = (fun _ => false)) (hxt : (x.2.2.1.2.1.exceptionTable.toList = tableOf [(0, 18, 21, 60)])) : Snd x 44 (bX0_carryOut_44 E Q) := by
  unfold bX0_carryOut_44
  exact s_return G dX0_carryOut_44
set_option maxHeartbeats 4000000 in
theorem tX0_carryOut_40 {x : CX} {E : Nat → Value} {Q : Rs → HS → Prop} (EN : EX x E) (G : Gd x cX0_carryOut "ChantRules" yX0_carryOut 4 (Option.none : Option Jvm.ClassFile.FieldType) Q) (hF : x.1.2.2.2.frames = 18 ∧ x.1.2.2.2.locals = 419) (hC : x.2.2.2.2.2 = (fun _ => false)) (hxt : (x.2.2.1.2.1.exceptionTable.toList = tableOf [(0, 18, 21, 60)])) : Snd x 40 (bX0_carryOut_40 E Q) := by
  unfold bX0_carryOut_40
  refine s_callI G (mX6_init_2 EN) rfl q1713 q518 q98 q519 nmk_73 (rm_of hF (Nat.le_of_ble_eq_true rfl) (Nat.le_of_ble_eq_true rfl)) dX0_carryOut_40 ?_ (sx_out G (by rw [hxt]; decide +kernel))
  exact s_athrow G.b G.kn dX0_carryOut_43 (sx_out G (by rw [hxt]; decide +kernel))
set_option maxHeartbeats 4000000 in
theorem tX0_carryOut_39 {x : CX} {E : Nat → Value} {Q : Rs → HS → Prop} (EN : EX x E) (G : Gd x cX0_carryOut "ChantRules" yX0_carryOut 4 (Option.none : Option Jvm.ClassFile.FieldType) Q) (hF : x.1.2.2.2.frames = 18 ∧ x.1.2.2.2.locals = 419) (hC : x.2.2.2.2.2 = (fun _ => false)) (hxt : (x.2.2.1.2.1.exceptionTable.toList = tableOf [(0, 18, 21, 60)])) : Snd x 39 (bX0_carryOut_39 E Q) := by
  unfold bX0_carryOut_39
  refine s_aload_n rfl G.b dX0_carryOut_39 ?_
  exact (tX0_carryOut_40 EN G hF hC hxt)
set_option maxHeartbeats 4000000 in
theorem tX0_carryOut_21 {x : CX} {E : Nat → Value} {Q : Rs → HS → Prop} (EN : EX x E) (G : Gd x cX0_carryOut "ChantRules" yX0_carryOut 4 (Option.none : Option Jvm.ClassFile.FieldType) Q) (hF : x.1.2.2.2.frames = 18 ∧ x.1.2.2.2.locals = 419) (hC : x.2.2.2.2.2 = (fun _ => false)) (hxt : (x.2.2.1.2.1.exceptionTable.toList = tableOf [(0, 18, 21, 60)])) : Snd x 21 (bX0_carryOut_21 E Q) := by
  unfold bX0_carryOut_21
  refine s_astore_n rfl G.b (by rw [G.nl]; decide) (fun _ _ => by rw [hC]) dX0_carryOut_21 ?_
  refine s_new (C := RX6) (T0 := TX6) (N := 8) G.b G.ow G.kn G.gr G.hts rfl (by decide) in_X6 q335 q477 q98 tyX6 tyX6_ok rfl dX0_carryOut_22 ?_
  refine s_dup G.b dX0_carryOut_25 ?_
  refine s_iconst (by decide) G.b dX0_carryOut_26 ?_
  refine s_iload_n rfl G.b dX0_carryOut_27 ?_
  refine s_aload_n rfl G.b dX0_carryOut_28 ?_
  refine s_getfN G.b G.ow G.kn (va_Nw.use rfl (va_Nw.warmF G.warm (EN.nw q527 rfl))) (fun _ h => h) fa_35 dX0_carryOut_29 ?_
  refine s_ifne (tgt := 39) G.b dX0_carryOut_32 (by decide) (tX0_carryOut_39 EN G hF hC hxt) ?_
  refine s_null G.b dX0_carryOut_35 ?_
  exact s_goto (tgt := 40) G.b dX0_carryOut_36 (by decide) (tX0_carryOut_40 EN G hF hC hxt)
set_option maxHeartbeats 4000000 in
theorem tX0_carryOut_13 {x : CX} {E : Nat → Value} {Q : Rs → HS → Prop} (EN : EX x E) (G : Gd x cX0_carryOut "ChantRules" yX0_carryOut 4 (Option.none : Option Jvm.ClassFile.FieldType) Q) (hF : x.1.2.2.2.frames = 18 ∧ x.1.2.2.2.locals = 419) (hC : x.2.2.2.2.2 = (fun _ => false)) (hxt : (x.2.2.1.2.1.exceptionTable.toList = tableOf [(0, 18, 21, 60)])) : Snd x 13 (bX0_carryOut_13 E Q) := by
  unfold bX0_carryOut_13
  refine s_iconst (by decide) G.b dX0_carryOut_13 ?_
  refine s_iconst (by decide) G.b dX0_carryOut_14 ?_
  refine s_callS G (mX0_refuse EN) q1712 q475 q76 q476 nmk_77 (rm_of hF (Nat.le_of_ble_eq_true rfl) (Nat.le_of_ble_eq_true rfl)) dX0_carryOut_15 ?_ (sx_catch G [] (⟨0, 18, 21, 60⟩ : ExceptionTableEntry) [] (by rw [hxt]; rfl) (fun w hw => nomatch hw) (by decide +kernel) (by decide) q335 ct_5 (tX0_carryOut_21 EN G hF hC hxt) sx_no)
  exact s_goto (tgt := 44) G.b dX0_carryOut_18 (by decide) (tX0_carryOut_44 EN G hF hC hxt)
set_option maxHeartbeats 4000000 in
theorem tX0_carryOut_12 {x : CX} {E : Nat → Value} {Q : Rs → HS → Prop} (EN : EX x E) (G : Gd x cX0_carryOut "ChantRules" yX0_carryOut 4 (Option.none : Option Jvm.ClassFile.FieldType) Q) (hF : x.1.2.2.2.frames = 18 ∧ x.1.2.2.2.locals = 419) (hC : x.2.2.2.2.2 = (fun _ => false)) (hxt : (x.2.2.1.2.1.exceptionTable.toList = tableOf [(0, 18, 21, 60)])) : Snd x 12 (bX0_carryOut_12 E Q) := by
  unfold bX0_carryOut_12
  refine s_iconst (by decide) G.b dX0_carryOut_12 ?_
  exact (tX0_carryOut_13 EN G hF hC hxt)
set_option maxHeartbeats 4000000 in
theorem tX0_carryOut_0 {x : CX} {E : Nat → Value} {Q : Rs → HS → Prop} (EN : EX x E) (G : Gd x cX0_carryOut "ChantRules" yX0_carryOut 4 (Option.none : Option Jvm.ClassFile.FieldType) Q) (hF : x.1.2.2.2.frames = 18 ∧ x.1.2.2.2.locals = 419) (hC : x.2.2.2.2.2 = (fun _ => false)) (hxt : (x.2.2.1.2.1.exceptionTable.toList = tableOf [(0, 18, 21, 60)])) : Snd x 0 (bX0_carryOut_0 E Q) := by
  unfold bX0_carryOut_0
  refine s_aload_n rfl G.b dX0_carryOut_0 ?_
  refine s_aload_n rfl G.b dX0_carryOut_1 ?_
  refine s_callV G (mX14_isDone EN) q1693 q1694 (sel_cons (r := (RX14, TX14, 7)) (by decide) rfl q1695 (sel_nil)) q112 q1696 nmk_148 (rm_of hF (Nat.le_of_ble_eq_true rfl) (Nat.le_of_ble_eq_true rfl)) dX0_carryOut_2 ?_ (sx_catch G [] (⟨0, 18, 21, 60⟩ : ExceptionTableEntry) [] (by rw [hxt]; rfl) (fun w hw => nomatch hw) (by decide +kernel) (by decide) q335 ct_5 (tX0_carryOut_21 EN G hF hC hxt) sx_no)
  refine s_ifne (tgt := 12) G.b dX0_carryOut_5 (by decide) (tX0_carryOut_12 EN G hF hC hxt) ?_
  refine s_iconst (by decide) G.b dX0_carryOut_8 ?_
  exact s_goto (tgt := 13) G.b dX0_carryOut_9 (by decide) (tX0_carryOut_13 EN G hF hC hxt)
set_option maxHeartbeats 4000000 in
theorem mX0_carryOut {l : Launch} {D : DE} {s0 : State} {E : Nat → Value} (EN : EV l D s0 E) : rMet l D s0 yX0_carryOut (wsW_ yX0_carryOut cX0_carryOut 4 (Option.none : Option Jvm.ClassFile.FieldType) [(0, 18, 21, 60)]) 18 419 (wX0_carryOut E) := by
  refine body_metW (fun _ => false) EN.kn (fun w h => h) (by decide +kernel) rfl (fun av h Q hw => ?_) ?_
  · unfold wX0_carryOut at hw
    split at hw
    · exact Nat.le_of_ble_eq_true rfl
    · exact hw.elim
  · intro p e s m below meth c av h Q hxt G hw
    unfold wX0_carryOut at hw
    split at hw
    · exact tX0_carryOut_0 EN G ⟨rfl, rfl⟩ rfl hxt _ _ _ hw
    · exact hw.elim
/-! ChantRules.character(I)I (X0_character) -/
theorem nmk_149 : nm_ok yJ6_length 0 := ⟨by decide +kernel, by decide +kernel, by decide +kernel⟩
theorem nmk_150 : nm_ok yJ6_charAt 1 := ⟨by decide +kernel, by decide +kernel, by decide +kernel⟩
def bX0_character_30 (E : Nat → Value) (Q : Rs → HS → Prop) : Ct :=
  o_ireturn .int Q
def bX0_character_28 (E : Nat → Value) (Q : Rs → HS → Prop) : Ct :=
  o_push (.int (-11)) <|
  (bX0_character_30 E Q)
def bX0_character_0 (E : Nat → Value) (Q : Rs → HS → Prop) : Ct :=
  o_iload 1 <|
  o_push (.int 0) <|
  o_aload 0 <|
  o_getf [0] 9 <|
  o_callV [19] 1 (wJ6_length E) (x_out Q) <|
  o_push (.int 1) <|
  o_isub <|
  o_call 3 (wX0_isIn E) (x_out Q) <|
  o_ifeq (bX0_character_28 E Q) <|
  o_aload 0 <|
  o_getf [0] 9 <|
  o_iload 1 <|
  o_callV [19] 2 (wJ6_charAt E) (x_out Q) <|
  (bX0_character_30 E Q)
def wX0_character (E : Nat → Value) : Wp := fun av h Q => match av with
  | [a0, a1] => bX0_character_0 E Q [a0, a1] [] h
  | _ => False
set_option maxHeartbeats 4000000 in
theorem tX0_character_30 {x : CX} {E : Nat → Value} {Q : Rs → HS → Prop} (EN : EX x E) (G : Gd x cX0_character "ChantRules" yX0_character 2 (Option.some Jvm.ClassFile.FieldType.int) Q) (hF : x.1.2.2.2.frames = 7 ∧ x.1.2.2.2.locals = 170) (hC : x.2.2.2.2.2 = (fun _ => false)) (hxt : (∀ z ∈ x.2.2.1.2.1.exceptionTable.toList, False)) : Snd x 30 (bX0_character_30 E Q) := by
  unfold bX0_character_30
  exact s_ireturn G dX0_character_30
set_option maxHeartbeats 4000000 in
theorem tX0_character_28 {x : CX} {E : Nat → Value} {Q : Rs → HS → Prop} (EN : EX x E) (G : Gd x cX0_character "ChantRules" yX0_character 2 (Option.some Jvm.ClassFile.FieldType.int) Q) (hF : x.1.2.2.2.frames = 7 ∧ x.1.2.2.2.locals = 170) (hC : x.2.2.2.2.2 = (fun _ => false)) (hxt : (∀ z ∈ x.2.2.1.2.1.exceptionTable.toList, False)) : Snd x 28 (bX0_character_28 E Q) := by
  unfold bX0_character_28
  refine s_bipush (by decide) G.b dX0_character_28 ?_
  exact (tX0_character_30 EN G hF hC hxt)
set_option maxHeartbeats 4000000 in
theorem tX0_character_0 {x : CX} {E : Nat → Value} {Q : Rs → HS → Prop} (EN : EX x E) (G : Gd x cX0_character "ChantRules" yX0_character 2 (Option.some Jvm.ClassFile.FieldType.int) Q) (hF : x.1.2.2.2.frames = 7 ∧ x.1.2.2.2.locals = 170) (hC : x.2.2.2.2.2 = (fun _ => false)) (hxt : (∀ z ∈ x.2.2.1.2.1.exceptionTable.toList, False)) : Snd x 0 (bX0_character_0 E Q) := by
  unfold bX0_character_0
  refine s_iload_n rfl G.b dX0_character_0 ?_
  refine s_iconst (by decide) G.b dX0_character_1 ?_
  refine s_aload_n rfl G.b dX0_character_2 ?_
  refine s_getf G.b G.ow G.kn (G.hts _ q309) (fun _ h => h) fa_14 dX0_character_3 ?_
  refine s_callV G (mJ6_length EN) q1236 q982 (sel_cons (r := (RJ6, TJ6, 4)) (by decide) rfl q2351 (sel_nil)) q86 q984 nmk_149 (rm_of hF (Nat.le_of_ble_eq_true rfl) (Nat.le_of_ble_eq_true rfl)) dX0_character_6 ?_ (sx_out G (fun z hz => (hxt z hz).elim))
  refine s_iconst (by decide) G.b dX0_character_9 ?_
  refine s_isub G.b dX0_character_10 ?_
  refine s_callS G (mX0_isIn EN) q339 q340 q76 q341 nmk_50 (rm_of hF (Nat.le_of_ble_eq_true rfl) (Nat.le_of_ble_eq_true rfl)) dX0_character_11 ?_ (sx_out G (fun z hz => (hxt z hz).elim))
  refine s_ifeq (tgt := 28) G.b dX0_character_14 (by decide) (tX0_character_28 EN G hF hC hxt) ?_
  refine s_aload_n rfl G.b dX0_character_17 ?_
  refine s_getf G.b G.ow G.kn (G.hts _ q309) (fun _ h => h) fa_14 dX0_character_18 ?_
  refine s_iload_n rfl G.b dX0_character_21 ?_
  refine s_callV G (mJ6_charAt EN) q1800 q1065 (sel_cons (r := (RJ6, TJ6, 4)) (by decide) rfl q2360 (sel_nil)) q86 q1067 nmk_150 (rm_of hF (Nat.le_of_ble_eq_true rfl) (Nat.le_of_ble_eq_true rfl)) dX0_character_22 ?_ (sx_out G (fun z hz => (hxt z hz).elim))
  exact s_goto (tgt := 30) G.b dX0_character_25 (by decide) (tX0_character_30 EN G hF hC hxt)
set_option maxHeartbeats 4000000 in
theorem mX0_character {l : Launch} {D : DE} {s0 : State} {E : Nat → Value} (EN : EV l D s0 E) : rMet l D s0 yX0_character (ws_ yX0_character cX0_character 2 (Option.some Jvm.ClassFile.FieldType.int)) 7 170 (wX0_character E) := by
  refine body_met (fun _ => false) EN.kn (fun w h => h) (by decide +kernel) rfl (fun av h Q hw => ?_) ?_
  · unfold wX0_character at hw
    split at hw
    · exact Nat.le_of_ble_eq_true rfl
    · exact hw.elim
  · intro p e s m below meth c av h Q hxt G hw
    unfold wX0_character at hw
    split at hw
    · exact tX0_character_0 EN G ⟨rfl, rfl⟩ rfl hxt _ _ _ hw
    · exact hw.elim
/-! ChantRules$Machine.leastOf(Z)I (X2_leastOf) -/
def bX2_leastOf_238 (E : Nat → Value) (Q : Rs → HS → Prop) (X9 X30 X45 X164 : Ct) : Ct :=
  o_ireturn .int Q
def bX2_leastOf_236 (E : Nat → Value) (Q : Rs → HS → Prop) (X9 X30 X45 X164 : Ct) : Ct :=
  o_iload 4 <|
  (bX2_leastOf_238 E Q X9 X30 X45 X164)
def bX2_leastOf_224 (E : Nat → Value) (Q : Rs → HS → Prop) (X9 X30 X45 X164 : Ct) : Ct :=
  o_iload 4 <|
  o_push (.int 1000000) <|
  o_icmplt (bX2_leastOf_236 E Q X9 X30 X45 X164) <|
  o_push (.int (-15)) <|
  (bX2_leastOf_238 E Q X9 X30 X45 X164)
def bX2_leastOf_207 (E : Nat → Value) (Q : Rs → HS → Prop) (X9 X30 X45 X164 : Ct) : Ct :=
  o_istore 6 <|
  o_iload 4 <|
  o_iload 6 <|
  o_imin <|
  o_istore 4 <|
  o_iinc 5 1 <|
  X164
def bX2_leastOf_206 (E : Nat → Value) (Q : Rs → HS → Prop) (X9 X30 X45 X164 : Ct) : Ct :=
  o_iadd <|
  (bX2_leastOf_207 E Q X9 X30 X45 X164)
def bX2_leastOf_205 (E : Nat → Value) (Q : Rs → HS → Prop) (X9 X30 X45 X164 : Ct) : Ct :=
  o_push (.int 0) <|
  (bX2_leastOf_206 E Q X9 X30 X45 X164)
def bX2_leastOf_202 (E : Nat → Value) (Q : Rs → HS → Prop) (X9 X30 X45 X164 : Ct) : Ct :=
  (bX2_leastOf_206 E Q X9 X30 X45 X164)
def bX2_leastOf_188 (E : Nat → Value) (Q : Rs → HS → Prop) (X9 X30 X45 X164 : Ct) : Ct :=
  o_aload 2 <|
  o_iload 5 <|
  o_ald [100] <|
  o_iload 1 <|
  o_ifeq (bX2_leastOf_205 E Q X9 X30 X45 X164) <|
  o_aload 0 <|
  o_iload 5 <|
  o_vsel 2 [2] (o_callV [2] 2 (wX3_end E) (x_out Q) (bX2_leastOf_202 E Q X9 X30 X45 X164)) (o_callV [4] 2 (wX11_end E) (x_out Q) (bX2_leastOf_202 E Q X9 X30 X45 X164))
def bX2_leastOf_179 (E : Nat → Value) (Q : Rs → HS → Prop) (X9 X30 X45 X164 : Ct) : Ct :=
  o_push (.int (-1)) <|
  o_icmpne (bX2_leastOf_188 E Q X9 X30 X45 X164) <|
  o_push (.int 1000000) <|
  (bX2_leastOf_207 E Q X9 X30 X45 X164)
def bX2_leastOf_170 (E : Nat → Value) (Q : Rs → HS → Prop) (X9 X30 X45 X164 : Ct) : Ct :=
  o_icmpge (bX2_leastOf_224 E Q X9 X30 X45 X164) <|
  o_aload 0 <|
  o_iload 5 <|
  o_vsel 2 [2] (o_callV [2] 2 (wX3_end E) (x_out Q) (bX2_leastOf_179 E Q X9 X30 X45 X164)) (o_callV [4] 2 (wX11_end E) (x_out Q) (bX2_leastOf_179 E Q X9 X30 X45 X164))
def bX2_leastOf_164 (E : Nat → Value) (Q : Rs → HS → Prop) (X9 X30 X45 X164 : Ct) : Ct :=
  o_iload 5 <|
  o_aload 0 <|
  o_vsel 1 [2] (o_callV [2] 1 (wX3_states E) (x_out Q) (bX2_leastOf_170 E Q X9 X30 X45 X164)) (o_callV [4] 1 (wX11_states E) (x_out Q) (bX2_leastOf_170 E Q X9 X30 X45 X164))
def bX2_leastOf_157 (E : Nat → Value) (Q : Rs → HS → Prop) (X9 X30 X45 X164 : Ct) : Ct :=
  o_push (.int 1000000) <|
  o_istore 4 <|
  o_push (.int 0) <|
  o_istore 5 <|
  X164
def bX2_leastOf_154 (E : Nat → Value) (Q : Rs → HS → Prop) (X9 X30 X45 X164 : Ct) : Ct :=
  X30
def bX2_leastOf_146 (E : Nat → Value) (Q : Rs → HS → Prop) (X9 X30 X45 X164 : Ct) : Ct :=
  o_ald [100] <|
  o_imin <|
  o_ast [(100, .int)] <|
  X45
def bX2_leastOf_136 (E : Nat → Value) (Q : Rs → HS → Prop) (X9 X30 X45 X164 : Ct) : Ct :=
  o_iload 6 <|
  o_aload 2 <|
  o_aload 5 <|
  o_vsel 1 [10] (o_callV [10] 1 (wX7_to E) (x_out Q) (bX2_leastOf_146 E Q X9 X30 X45 X164)) (o_callV [11] 1 (wX8_to E) (x_out Q) (bX2_leastOf_146 E Q X9 X30 X45 X164))
def bX2_leastOf_126 (E : Nat → Value) (Q : Rs → HS → Prop) (X9 X30 X45 X164 : Ct) : Ct :=
  o_ior <|
  o_istore 3 <|
  o_aload 2 <|
  o_aload 5 <|
  o_vsel 1 [10] (o_callV [10] 1 (wX7_to E) (x_out Q) (bX2_leastOf_136 E Q X9 X30 X45 X164)) (o_callV [11] 1 (wX8_to E) (x_out Q) (bX2_leastOf_136 E Q X9 X30 X45 X164))
def bX2_leastOf_125 (E : Nat → Value) (Q : Rs → HS → Prop) (X9 X30 X45 X164 : Ct) : Ct :=
  o_push (.int 0) <|
  (bX2_leastOf_126 E Q X9 X30 X45 X164)
def bX2_leastOf_117 (E : Nat → Value) (Q : Rs → HS → Prop) (X9 X30 X45 X164 : Ct) : Ct :=
  o_ald [100] <|
  o_icmpge (bX2_leastOf_125 E Q X9 X30 X45 X164) <|
  o_push (.int 1) <|
  (bX2_leastOf_126 E Q X9 X30 X45 X164)
def bX2_leastOf_103 (E : Nat → Value) (Q : Rs → HS → Prop) (X9 X30 X45 X164 : Ct) : Ct :=
  o_iadd <|
  o_istore 6 <|
  o_iload 3 <|
  o_iload 6 <|
  o_aload 2 <|
  o_aload 5 <|
  o_vsel 1 [10] (o_callV [10] 1 (wX7_to E) (x_out Q) (bX2_leastOf_117 E Q X9 X30 X45 X164)) (o_callV [11] 1 (wX8_to E) (x_out Q) (bX2_leastOf_117 E Q X9 X30 X45 X164))
def bX2_leastOf_102 (E : Nat → Value) (Q : Rs → HS → Prop) (X9 X30 X45 X164 : Ct) : Ct :=
  o_push (.int 0) <|
  (bX2_leastOf_103 E Q X9 X30 X45 X164)
def bX2_leastOf_90 (E : Nat → Value) (Q : Rs → HS → Prop) (X9 X30 X45 X164 : Ct) : Ct :=
  o_aload 5 <|
  o_inst [11] [10] <|
  o_ifeq (bX2_leastOf_102 E Q X9 X30 X45 X164) <|
  o_push (.int 1) <|
  (bX2_leastOf_103 E Q X9 X30 X45 X164)
def bX2_leastOf_87 (E : Nat → Value) (Q : Rs → HS → Prop) (X9 X30 X45 X164 : Ct) : Ct :=
  (bX2_leastOf_103 E Q X9 X30 X45 X164)
def bX2_leastOf_75 (E : Nat → Value) (Q : Rs → HS → Prop) (X9 X30 X45 X164 : Ct) : Ct :=
  o_ald [100] <|
  o_iload 1 <|
  o_ifeq (bX2_leastOf_90 E Q X9 X30 X45 X164) <|
  o_aload 5 <|
  o_vsel 1 [10] (o_callV [10] 1 (wX7_weight E) (x_out Q) (bX2_leastOf_87 E Q X9 X30 X45 X164)) (o_callV [11] 1 (wX8_weight E) (x_out Q) (bX2_leastOf_87 E Q X9 X30 X45 X164))
def bX2_leastOf_45 (E : Nat → Value) (Q : Rs → HS → Prop) (X9 X30 X45 X164 : Ct) : Ct :=
  o_aload 4 <|
  o_callV [20] 1 (wJ9_hasNext E) (x_out Q) <|
  o_ifeq (bX2_leastOf_154 E Q X9 X30 X45 X164) <|
  o_aload 4 <|
  o_callV [20] 1 (wJ9_next E) (x_out Q) <|
  o_cast [10, 11] <|
  o_astore 5 <|
  o_aload 2 <|
  o_aload 5 <|
  o_vsel 1 [10] (o_callV [10] 1 (wX7_from E) (x_out Q) (bX2_leastOf_75 E Q X9 X30 X45 X164)) (o_callV [11] 1 (wX8_from E) (x_out Q) (bX2_leastOf_75 E Q X9 X30 X45 X164))
def bX2_leastOf_40 (E : Nat → Value) (Q : Rs → HS → Prop) (X9 X30 X45 X164 : Ct) : Ct :=
  o_callV [15] 1 (wJ2_iterator E) (x_out Q) <|
  o_astore 4 <|
  X45
def bX2_leastOf_30 (E : Nat → Value) (Q : Rs → HS → Prop) (X9 X30 X45 X164 : Ct) : Ct :=
  o_iload 3 <|
  o_ifeq (bX2_leastOf_157 E Q X9 X30 X45 X164) <|
  o_push (.int 0) <|
  o_istore 3 <|
  o_aload 0 <|
  o_vsel 1 [2] (o_callV [2] 1 (wX3_arcs E) (x_out Q) (bX2_leastOf_40 E Q X9 X30 X45 X164)) (o_callV [4] 1 (wX11_arcs E) (x_out Q) (bX2_leastOf_40 E Q X9 X30 X45 X164))
def bX2_leastOf_28 (E : Nat → Value) (Q : Rs → HS → Prop) (X9 X30 X45 X164 : Ct) : Ct :=
  o_push (.int 1) <|
  o_istore 3 <|
  X30
def bX2_leastOf_14 (E : Nat → Value) (Q : Rs → HS → Prop) (X9 X30 X45 X164 : Ct) : Ct :=
  o_icmpge (bX2_leastOf_28 E Q X9 X30 X45 X164) <|
  o_aload 2 <|
  o_iload 3 <|
  o_push (.int 1000000) <|
  o_ast [(100, .int)] <|
  o_iinc 3 1 <|
  X9
def bX2_leastOf_9 (E : Nat → Value) (Q : Rs → HS → Prop) (X9 X30 X45 X164 : Ct) : Ct :=
  o_iload 3 <|
  o_aload 0 <|
  o_vsel 1 [2] (o_callV [2] 1 (wX3_states E) (x_out Q) (bX2_leastOf_14 E Q X9 X30 X45 X164)) (o_callV [4] 1 (wX11_states E) (x_out Q) (bX2_leastOf_14 E Q X9 X30 X45 X164))
def bX2_leastOf_4 (E : Nat → Value) (Q : Rs → HS → Prop) (X9 X30 X45 X164 : Ct) : Ct :=
  o_newa 100 (.int 0) <|
  o_astore 2 <|
  o_push (.int 1) <|
  o_istore 3 <|
  X9
def bX2_leastOf_0 (E : Nat → Value) (Q : Rs → HS → Prop) (X9 X30 X45 X164 : Ct) : Ct :=
  o_aload 0 <|
  o_vsel 1 [2] (o_callV [2] 1 (wX3_states E) (x_out Q) (bX2_leastOf_4 E Q X9 X30 X45 X164)) (o_callV [4] 1 (wX11_states E) (x_out Q) (bX2_leastOf_4 E Q X9 X30 X45 X164))
def wX2_leastOf (E : Nat → Value) : Wp := fun av h Q => match av with
  | [a0, a1] => ∀ X9 X30 X45 X164 : Ct, (∀ ls st h, bX2_leastOf_9 E Q X9 X30 X45 X164 ls st h → X9 ls st h) → (∀ ls st h, bX2_leastOf_30 E Q X9 X30 X45 X164 ls st h → X30 ls st h) → (∀ ls st h, bX2_leastOf_45 E Q X9 X30 X45 X164 ls st h → X45 ls st h) → (∀ ls st h, bX2_leastOf_164 E Q X9 X30 X45 X164 ls st h → X164 ls st h) → bX2_leastOf_0 E Q X9 X30 X45 X164 [a0, a1, jk, jk, jk, jk, jk] [] h
  | _ => False
set_option maxHeartbeats 4000000 in
theorem tX2_leastOf_238 {x : CX} {E : Nat → Value} {Q : Rs → HS → Prop} {X9 X30 X45 X164 : Ct} (EN : EX x E) (G : Gd x cX2_leastOf "ChantRules$Machine" yX2_leastOf 7 (Option.some Jvm.ClassFile.FieldType.int) Q) (hF : x.1.2.2.2.frames = 4 ∧ x.1.2.2.2.locals = 108) (hC : x.2.2.2.2.2 = (fun _ => false)) (hxt : (∀ z ∈ x.2.2.1.2.1.exceptionTable.toList, False)) (h9 : Snd x 9 X9) (h30 : Snd x 30 X30) (h45 : Snd x 45 X45) (h164 : Snd x 164 X164) : Snd x 238 (bX2_leastOf_238 E Q X9 X30 X45 X164) := by
  unfold bX2_leastOf_238
  exact s_ireturn G dX2_leastOf_238
set_option maxHeartbeats 4000000 in
theorem tX2_leastOf_236 {x : CX} {E : Nat → Value} {Q : Rs → HS → Prop} {X9 X30 X45 X164 : Ct} (EN : EX x E) (G : Gd x cX2_leastOf "ChantRules$Machine" yX2_leastOf 7 (Option.some Jvm.ClassFile.FieldType.int) Q) (hF : x.1.2.2.2.frames = 4 ∧ x.1.2.2.2.locals = 108) (hC : x.2.2.2.2.2 = (fun _ => false)) (hxt : (∀ z ∈ x.2.2.1.2.1.exceptionTable.toList, False)) (h9 : Snd x 9 X9) (h30 : Snd x 30 X30) (h45 : Snd x 45 X45) (h164 : Snd x 164 X164) : Snd x 236 (bX2_leastOf_236 E Q X9 X30 X45 X164) := by
  unfold bX2_leastOf_236
  refine s_iload G.b dX2_leastOf_236 ?_
  exact (tX2_leastOf_238 EN G hF hC hxt h9 h30 h45 h164)
set_option maxHeartbeats 4000000 in
theorem tX2_leastOf_224 {x : CX} {E : Nat → Value} {Q : Rs → HS → Prop} {X9 X30 X45 X164 : Ct} (EN : EX x E) (G : Gd x cX2_leastOf "ChantRules$Machine" yX2_leastOf 7 (Option.some Jvm.ClassFile.FieldType.int) Q) (hF : x.1.2.2.2.frames = 4 ∧ x.1.2.2.2.locals = 108) (hC : x.2.2.2.2.2 = (fun _ => false)) (hxt : (∀ z ∈ x.2.2.1.2.1.exceptionTable.toList, False)) (h9 : Snd x 9 X9) (h30 : Snd x 30 X30) (h45 : Snd x 45 X45) (h164 : Snd x 164 X164) : Snd x 224 (bX2_leastOf_224 E Q X9 X30 X45 X164) := by
  unfold bX2_leastOf_224
  refine s_iload G.b dX2_leastOf_224 ?_
  refine s_ldcI G.b G.ow G.hts q1386 dX2_leastOf_226 ?_
  refine s_icmplt (tgt := 236) G.b dX2_leastOf_228 (by decide) (tX2_leastOf_236 EN G hF hC hxt h9 h30 h45 h164) ?_
  refine s_bipush (by decide) G.b dX2_leastOf_231 ?_
  exact s_goto (tgt := 238) G.b dX2_leastOf_233 (by decide) (tX2_leastOf_238 EN G hF hC hxt h9 h30 h45 h164)
set_option maxHeartbeats 4000000 in
theorem tX2_leastOf_207 {x : CX} {E : Nat → Value} {Q : Rs → HS → Prop} {X9 X30 X45 X164 : Ct} (EN : EX x E) (G : Gd x cX2_leastOf "ChantRules$Machine" yX2_leastOf 7 (Option.some Jvm.ClassFile.FieldType.int) Q) (hF : x.1.2.2.2.frames = 4 ∧ x.1.2.2.2.locals = 108) (hC : x.2.2.2.2.2 = (fun _ => false)) (hxt : (∀ z ∈ x.2.2.1.2.1.exceptionTable.toList, False)) (h9 : Snd x 9 X9) (h30 : Snd x 30 X30) (h45 : Snd x 45 X45) (h164 : Snd x 164 X164) : Snd x 207 (bX2_leastOf_207 E Q X9 X30 X45 X164) := by
  unfold bX2_leastOf_207
  refine s_istore G.b (by rw [G.nl]; decide) (fun _ _ => by rw [hC]) dX2_leastOf_207 ?_
  refine s_iload G.b dX2_leastOf_209 ?_
  refine s_iload G.b dX2_leastOf_211 ?_
  refine s_imin G hF ⟨Nat.le_of_ble_eq_true rfl, Nat.le_of_ble_eq_true rfl⟩ q1387 q464 q93 q465 dX2_leastOf_213 ?_
  refine s_istore G.b (by rw [G.nl]; decide) (fun _ _ => by rw [hC]) dX2_leastOf_216 ?_
  refine s_iinc (by decide) G.b (by rw [G.nl]; decide) (fun _ _ => by rw [hC]) dX2_leastOf_218 ?_
  exact s_goto (tgt := 164) G.b dX2_leastOf_221 (by decide) h164
set_option maxHeartbeats 4000000 in
theorem tX2_leastOf_206 {x : CX} {E : Nat → Value} {Q : Rs → HS → Prop} {X9 X30 X45 X164 : Ct} (EN : EX x E) (G : Gd x cX2_leastOf "ChantRules$Machine" yX2_leastOf 7 (Option.some Jvm.ClassFile.FieldType.int) Q) (hF : x.1.2.2.2.frames = 4 ∧ x.1.2.2.2.locals = 108) (hC : x.2.2.2.2.2 = (fun _ => false)) (hxt : (∀ z ∈ x.2.2.1.2.1.exceptionTable.toList, False)) (h9 : Snd x 9 X9) (h30 : Snd x 30 X30) (h45 : Snd x 45 X45) (h164 : Snd x 164 X164) : Snd x 206 (bX2_leastOf_206 E Q X9 X30 X45 X164) := by
  unfold bX2_leastOf_206
  refine s_iadd G.b dX2_leastOf_206 ?_
  exact (tX2_leastOf_207 EN G hF hC hxt h9 h30 h45 h164)
set_option maxHeartbeats 4000000 in
theorem tX2_leastOf_205 {x : CX} {E : Nat → Value} {Q : Rs → HS → Prop} {X9 X30 X45 X164 : Ct} (EN : EX x E) (G : Gd x cX2_leastOf "ChantRules$Machine" yX2_leastOf 7 (Option.some Jvm.ClassFile.FieldType.int) Q) (hF : x.1.2.2.2.frames = 4 ∧ x.1.2.2.2.locals = 108) (hC : x.2.2.2.2.2 = (fun _ => false)) (hxt : (∀ z ∈ x.2.2.1.2.1.exceptionTable.toList, False)) (h9 : Snd x 9 X9) (h30 : Snd x 30 X30) (h45 : Snd x 45 X45) (h164 : Snd x 164 X164) : Snd x 205 (bX2_leastOf_205 E Q X9 X30 X45 X164) := by
  unfold bX2_leastOf_205
  refine s_iconst (by decide) G.b dX2_leastOf_205 ?_
  exact (tX2_leastOf_206 EN G hF hC hxt h9 h30 h45 h164)
set_option maxHeartbeats 4000000 in
theorem tX2_leastOf_202 {x : CX} {E : Nat → Value} {Q : Rs → HS → Prop} {X9 X30 X45 X164 : Ct} (EN : EX x E) (G : Gd x cX2_leastOf "ChantRules$Machine" yX2_leastOf 7 (Option.some Jvm.ClassFile.FieldType.int) Q) (hF : x.1.2.2.2.frames = 4 ∧ x.1.2.2.2.locals = 108) (hC : x.2.2.2.2.2 = (fun _ => false)) (hxt : (∀ z ∈ x.2.2.1.2.1.exceptionTable.toList, False)) (h9 : Snd x 9 X9) (h30 : Snd x 30 X30) (h45 : Snd x 45 X45) (h164 : Snd x 164 X164) : Snd x 202 (bX2_leastOf_202 E Q X9 X30 X45 X164) := by
  unfold bX2_leastOf_202
  exact s_goto (tgt := 206) G.b dX2_leastOf_202 (by decide) (tX2_leastOf_206 EN G hF hC hxt h9 h30 h45 h164)
set_option maxHeartbeats 4000000 in
theorem tX2_leastOf_188 {x : CX} {E : Nat → Value} {Q : Rs → HS → Prop} {X9 X30 X45 X164 : Ct} (EN : EX x E) (G : Gd x cX2_leastOf "ChantRules$Machine" yX2_leastOf 7 (Option.some Jvm.ClassFile.FieldType.int) Q) (hF : x.1.2.2.2.frames = 4 ∧ x.1.2.2.2.locals = 108) (hC : x.2.2.2.2.2 = (fun _ => false)) (hxt : (∀ z ∈ x.2.2.1.2.1.exceptionTable.toList, False)) (h9 : Snd x 9 X9) (h30 : Snd x 30 X30) (h45 : Snd x 45 X45) (h164 : Snd x 164 X164) : Snd x 188 (bX2_leastOf_188 E Q X9 X30 X45 X164) := by
  unfold bX2_leastOf_188
  refine s_aload_n rfl G.b dX2_leastOf_188 ?_
  refine s_iload G.b dX2_leastOf_189 ?_
  refine s_iald G.b G.kn dX2_leastOf_191 ?_
  refine s_iload_n rfl G.b dX2_leastOf_192 ?_
  refine s_ifeq (tgt := 205) G.b dX2_leastOf_193 (by decide) (tX2_leastOf_205 EN G hF hC hxt h9 h30 h45 h164) ?_
  refine s_aload_n rfl G.b dX2_leastOf_196 ?_
  refine s_iload G.b dX2_leastOf_197 ?_
  exact (s_vsel (s_callVU (w := ⟨"ChantRules$Machine", "end", "(I)I"⟩) (owner := "ChantRules$Machine") G (mX3_end EN) q907 q909 (va_Decl.abs (va_Nw.warmD G.warm (EN.nw q908 rfl))) (by decide +kernel) q914 (sel_cons (r := (RX3, TX3, 3)) (by decide) rfl q917 (sel_nil)) q79 q916 nmk_113 (rm_of hF (Nat.le_of_ble_eq_true rfl) (Nat.le_of_ble_eq_true rfl)) dX2_leastOf_199 (tX2_leastOf_202 EN G hF hC hxt h9 h30 h45 h164) (sx_out G (fun z hz => (hxt z hz).elim)) ) (s_callVU (w := ⟨"ChantRules$Machine", "end", "(I)I"⟩) (owner := "ChantRules$Machine") G (mX11_end EN) q907 q909 (va_Decl.abs (va_Nw.warmD G.warm (EN.nw q908 rfl))) (by decide +kernel) q911 (sel_cons (r := (RX11, TX11, 3)) (by decide) rfl q910 (sel_nil)) q106 q912 nmk_113 (rm_of hF (Nat.le_of_ble_eq_true rfl) (Nat.le_of_ble_eq_true rfl)) dX2_leastOf_199 (tX2_leastOf_202 EN G hF hC hxt h9 h30 h45 h164) (sx_out G (fun z hz => (hxt z hz).elim)) ))
set_option maxHeartbeats 4000000 in
theorem tX2_leastOf_179 {x : CX} {E : Nat → Value} {Q : Rs → HS → Prop} {X9 X30 X45 X164 : Ct} (EN : EX x E) (G : Gd x cX2_leastOf "ChantRules$Machine" yX2_leastOf 7 (Option.some Jvm.ClassFile.FieldType.int) Q) (hF : x.1.2.2.2.frames = 4 ∧ x.1.2.2.2.locals = 108) (hC : x.2.2.2.2.2 = (fun _ => false)) (hxt : (∀ z ∈ x.2.2.1.2.1.exceptionTable.toList, False)) (h9 : Snd x 9 X9) (h30 : Snd x 30 X30) (h45 : Snd x 45 X45) (h164 : Snd x 164 X164) : Snd x 179 (bX2_leastOf_179 E Q X9 X30 X45 X164) := by
  unfold bX2_leastOf_179
  refine s_iconst (by decide) G.b dX2_leastOf_179 ?_
  refine s_icmpne (tgt := 188) G.b dX2_leastOf_180 (by decide) (tX2_leastOf_188 EN G hF hC hxt h9 h30 h45 h164) ?_
  refine s_ldcI G.b G.ow G.hts q1386 dX2_leastOf_183 ?_
  exact s_goto (tgt := 207) G.b dX2_leastOf_185 (by decide) (tX2_leastOf_207 EN G hF hC hxt h9 h30 h45 h164)
set_option maxHeartbeats 4000000 in
theorem tX2_leastOf_170 {x : CX} {E : Nat → Value} {Q : Rs → HS → Prop} {X9 X30 X45 X164 : Ct} (EN : EX x E) (G : Gd x cX2_leastOf "ChantRules$Machine" yX2_leastOf 7 (Option.some Jvm.ClassFile.FieldType.int) Q) (hF : x.1.2.2.2.frames = 4 ∧ x.1.2.2.2.locals = 108) (hC : x.2.2.2.2.2 = (fun _ => false)) (hxt : (∀ z ∈ x.2.2.1.2.1.exceptionTable.toList, False)) (h9 : Snd x 9 X9) (h30 : Snd x 30 X30) (h45 : Snd x 45 X45) (h164 : Snd x 164 X164) : Snd x 170 (bX2_leastOf_170 E Q X9 X30 X45 X164) := by
  unfold bX2_leastOf_170
  refine s_icmpge (tgt := 224) G.b dX2_leastOf_170 (by decide) (tX2_leastOf_224 EN G hF hC hxt h9 h30 h45 h164) ?_
  refine s_aload_n rfl G.b dX2_leastOf_173 ?_
  refine s_iload G.b dX2_leastOf_174 ?_
  exact (s_vsel (s_callVU (w := ⟨"ChantRules$Machine", "end", "(I)I"⟩) (owner := "ChantRules$Machine") G (mX3_end EN) q907 q909 (va_Decl.abs (va_Nw.warmD G.warm (EN.nw q908 rfl))) (by decide +kernel) q914 (sel_cons (r := (RX3, TX3, 3)) (by decide) rfl q917 (sel_nil)) q79 q916 nmk_113 (rm_of hF (Nat.le_of_ble_eq_true rfl) (Nat.le_of_ble_eq_true rfl)) dX2_leastOf_176 (tX2_leastOf_179 EN G hF hC hxt h9 h30 h45 h164) (sx_out G (fun z hz => (hxt z hz).elim)) ) (s_callVU (w := ⟨"ChantRules$Machine", "end", "(I)I"⟩) (owner := "ChantRules$Machine") G (mX11_end EN) q907 q909 (va_Decl.abs (va_Nw.warmD G.warm (EN.nw q908 rfl))) (by decide +kernel) q911 (sel_cons (r := (RX11, TX11, 3)) (by decide) rfl q910 (sel_nil)) q106 q912 nmk_113 (rm_of hF (Nat.le_of_ble_eq_true rfl) (Nat.le_of_ble_eq_true rfl)) dX2_leastOf_176 (tX2_leastOf_179 EN G hF hC hxt h9 h30 h45 h164) (sx_out G (fun z hz => (hxt z hz).elim)) ))
set_option maxHeartbeats 4000000 in
theorem tX2_leastOf_164 {x : CX} {E : Nat → Value} {Q : Rs → HS → Prop} {X9 X30 X45 X164 : Ct} (EN : EX x E) (G : Gd x cX2_leastOf "ChantRules$Machine" yX2_leastOf 7 (Option.some Jvm.ClassFile.FieldType.int) Q) (hF : x.1.2.2.2.frames = 4 ∧ x.1.2.2.2.locals = 108) (hC : x.2.2.2.2.2 = (fun _ => false)) (hxt : (∀ z ∈ x.2.2.1.2.1.exceptionTable.toList, False)) (h9 : Snd x 9 X9) (h30 : Snd x 30 X30) (h45 : Snd x 45 X45) (h164 : Snd x 164 X164) : Snd x 164 (bX2_leastOf_164 E Q X9 X30 X45 X164) := by
  unfold bX2_leastOf_164
  refine s_iload G.b dX2_leastOf_164 ?_
  refine s_aload_n rfl G.b dX2_leastOf_166 ?_
  exact (s_vsel (s_callVU (w := ⟨"ChantRules$Machine", "states", "()I"⟩) (owner := "ChantRules$Machine") G (mX3_states EN) q866 q868 (va_Decl.abs (va_Nw.warmD G.warm (EN.nw q867 rfl))) (by decide +kernel) q873 (sel_cons (r := (RX3, TX3, 3)) (by decide) rfl q872 (sel_nil)) q79 q874 nmk_115 (rm_of hF (Nat.le_of_ble_eq_true rfl) (Nat.le_of_ble_eq_true rfl)) dX2_leastOf_167 (tX2_leastOf_170 EN G hF hC hxt h9 h30 h45 h164) (sx_out G (fun z hz => (hxt z hz).elim)) ) (s_callVU (w := ⟨"ChantRules$Machine", "states", "()I"⟩) (owner := "ChantRules$Machine") G (mX11_states EN) q866 q868 (va_Decl.abs (va_Nw.warmD G.warm (EN.nw q867 rfl))) (by decide +kernel) q870 (sel_cons (r := (RX11, TX11, 3)) (by decide) rfl q869 (sel_nil)) q106 q871 nmk_115 (rm_of hF (Nat.le_of_ble_eq_true rfl) (Nat.le_of_ble_eq_true rfl)) dX2_leastOf_167 (tX2_leastOf_170 EN G hF hC hxt h9 h30 h45 h164) (sx_out G (fun z hz => (hxt z hz).elim)) ))
set_option maxHeartbeats 4000000 in
theorem tX2_leastOf_157 {x : CX} {E : Nat → Value} {Q : Rs → HS → Prop} {X9 X30 X45 X164 : Ct} (EN : EX x E) (G : Gd x cX2_leastOf "ChantRules$Machine" yX2_leastOf 7 (Option.some Jvm.ClassFile.FieldType.int) Q) (hF : x.1.2.2.2.frames = 4 ∧ x.1.2.2.2.locals = 108) (hC : x.2.2.2.2.2 = (fun _ => false)) (hxt : (∀ z ∈ x.2.2.1.2.1.exceptionTable.toList, False)) (h9 : Snd x 9 X9) (h30 : Snd x 30 X30) (h45 : Snd x 45 X45) (h164 : Snd x 164 X164) : Snd x 157 (bX2_leastOf_157 E Q X9 X30 X45 X164) := by
  unfold bX2_leastOf_157
  refine s_ldcI G.b G.ow G.hts q1386 dX2_leastOf_157 ?_
  refine s_istore G.b (by rw [G.nl]; decide) (fun _ _ => by rw [hC]) dX2_leastOf_159 ?_
  refine s_iconst (by decide) G.b dX2_leastOf_161 ?_
  refine s_istore G.b (by rw [G.nl]; decide) (fun _ _ => by rw [hC]) dX2_leastOf_162 ?_
  exact h164
set_option maxHeartbeats 4000000 in
theorem tX2_leastOf_154 {x : CX} {E : Nat → Value} {Q : Rs → HS → Prop} {X9 X30 X45 X164 : Ct} (EN : EX x E) (G : Gd x cX2_leastOf "ChantRules$Machine" yX2_leastOf 7 (Option.some Jvm.ClassFile.FieldType.int) Q) (hF : x.1.2.2.2.frames = 4 ∧ x.1.2.2.2.locals = 108) (hC : x.2.2.2.2.2 = (fun _ => false)) (hxt : (∀ z ∈ x.2.2.1.2.1.exceptionTable.toList, False)) (h9 : Snd x 9 X9) (h30 : Snd x 30 X30) (h45 : Snd x 45 X45) (h164 : Snd x 164 X164) : Snd x 154 (bX2_leastOf_154 E Q X9 X30 X45 X164) := by
  unfold bX2_leastOf_154
  exact s_goto (tgt := 30) G.b dX2_leastOf_154 (by decide) h30
set_option maxHeartbeats 4000000 in
theorem tX2_leastOf_146 {x : CX} {E : Nat → Value} {Q : Rs → HS → Prop} {X9 X30 X45 X164 : Ct} (EN : EX x E) (G : Gd x cX2_leastOf "ChantRules$Machine" yX2_leastOf 7 (Option.some Jvm.ClassFile.FieldType.int) Q) (hF : x.1.2.2.2.frames = 4 ∧ x.1.2.2.2.locals = 108) (hC : x.2.2.2.2.2 = (fun _ => false)) (hxt : (∀ z ∈ x.2.2.1.2.1.exceptionTable.toList, False)) (h9 : Snd x 9 X9) (h30 : Snd x 30 X30) (h45 : Snd x 45 X45) (h164 : Snd x 164 X164) : Snd x 146 (bX2_leastOf_146 E Q X9 X30 X45 X164) := by
  unfold bX2_leastOf_146
  refine s_iald G.b G.kn dX2_leastOf_146 ?_
  refine s_imin G hF ⟨Nat.le_of_ble_eq_true rfl, Nat.le_of_ble_eq_true rfl⟩ q1387 q464 q93 q465 dX2_leastOf_147 ?_
  refine s_iast G.b G.kn dX2_leastOf_150 ?_
  exact s_goto (tgt := 45) G.b dX2_leastOf_151 (by decide) h45
set_option maxHeartbeats 4000000 in
theorem tX2_leastOf_136 {x : CX} {E : Nat → Value} {Q : Rs → HS → Prop} {X9 X30 X45 X164 : Ct} (EN : EX x E) (G : Gd x cX2_leastOf "ChantRules$Machine" yX2_leastOf 7 (Option.some Jvm.ClassFile.FieldType.int) Q) (hF : x.1.2.2.2.frames = 4 ∧ x.1.2.2.2.locals = 108) (hC : x.2.2.2.2.2 = (fun _ => false)) (hxt : (∀ z ∈ x.2.2.1.2.1.exceptionTable.toList, False)) (h9 : Snd x 9 X9) (h30 : Snd x 30 X30) (h45 : Snd x 45 X45) (h164 : Snd x 164 X164) : Snd x 136 (bX2_leastOf_136 E Q X9 X30 X45 X164) := by
  unfold bX2_leastOf_136
  refine s_iload G.b dX2_leastOf_136 ?_
  refine s_aload_n rfl G.b dX2_leastOf_138 ?_
  refine s_aload G.b dX2_leastOf_139 ?_
  exact (s_vsel (s_callF (r0 := (RX7, TX7, 4)) (w := ⟨"ChantRules$Arc", "to", "()I"⟩) (by decide) rfl G (mX7_to EN) q893 (va_Fw.moved (by decide +kernel) G.warm.alike ⟨(EN.nw q726 rfl), (EN.nw q725 rfl), (EN.nw q730 rfl), (EN.nw q728 rfl), (EN.nw q287 rfl)⟩) q727 q729 q99 q731 nmk_69 (rm_of hF (Nat.le_of_ble_eq_true rfl) (Nat.le_of_ble_eq_true rfl)) dX2_leastOf_141 (tX2_leastOf_146 EN G hF hC hxt h9 h30 h45 h164) (sx_out G (fun z hz => (hxt z hz).elim)) ) (s_callF (r0 := (RX8, TX8, 5)) (w := ⟨"ChantRules$Arc", "to", "()I"⟩) (by decide) rfl G (mX8_to EN) q893 (va_Fw.moved (by decide +kernel) G.warm.alike ⟨(EN.nw q726 rfl), (EN.nw q725 rfl), (EN.nw q735 rfl), (EN.nw q733 rfl), (EN.nw q293 rfl)⟩) q732 q734 q100 q736 nmk_69 (rm_of hF (Nat.le_of_ble_eq_true rfl) (Nat.le_of_ble_eq_true rfl)) dX2_leastOf_141 (tX2_leastOf_146 EN G hF hC hxt h9 h30 h45 h164) (sx_out G (fun z hz => (hxt z hz).elim)) ))
set_option maxHeartbeats 4000000 in
theorem tX2_leastOf_126 {x : CX} {E : Nat → Value} {Q : Rs → HS → Prop} {X9 X30 X45 X164 : Ct} (EN : EX x E) (G : Gd x cX2_leastOf "ChantRules$Machine" yX2_leastOf 7 (Option.some Jvm.ClassFile.FieldType.int) Q) (hF : x.1.2.2.2.frames = 4 ∧ x.1.2.2.2.locals = 108) (hC : x.2.2.2.2.2 = (fun _ => false)) (hxt : (∀ z ∈ x.2.2.1.2.1.exceptionTable.toList, False)) (h9 : Snd x 9 X9) (h30 : Snd x 30 X30) (h45 : Snd x 45 X45) (h164 : Snd x 164 X164) : Snd x 126 (bX2_leastOf_126 E Q X9 X30 X45 X164) := by
  unfold bX2_leastOf_126
  refine s_ior G.b dX2_leastOf_126 ?_
  refine s_istore_n rfl G.b (by rw [G.nl]; decide) (fun _ _ => by rw [hC]) dX2_leastOf_127 ?_
  refine s_aload_n rfl G.b dX2_leastOf_128 ?_
  refine s_aload G.b dX2_leastOf_129 ?_
  exact (s_vsel (s_callF (r0 := (RX7, TX7, 4)) (w := ⟨"ChantRules$Arc", "to", "()I"⟩) (by decide) rfl G (mX7_to EN) q893 (va_Fw.moved (by decide +kernel) G.warm.alike ⟨(EN.nw q726 rfl), (EN.nw q725 rfl), (EN.nw q730 rfl), (EN.nw q728 rfl), (EN.nw q287 rfl)⟩) q727 q729 q99 q731 nmk_69 (rm_of hF (Nat.le_of_ble_eq_true rfl) (Nat.le_of_ble_eq_true rfl)) dX2_leastOf_131 (tX2_leastOf_136 EN G hF hC hxt h9 h30 h45 h164) (sx_out G (fun z hz => (hxt z hz).elim)) ) (s_callF (r0 := (RX8, TX8, 5)) (w := ⟨"ChantRules$Arc", "to", "()I"⟩) (by decide) rfl G (mX8_to EN) q893 (va_Fw.moved (by decide +kernel) G.warm.alike ⟨(EN.nw q726 rfl), (EN.nw q725 rfl), (EN.nw q735 rfl), (EN.nw q733 rfl), (EN.nw q293 rfl)⟩) q732 q734 q100 q736 nmk_69 (rm_of hF (Nat.le_of_ble_eq_true rfl) (Nat.le_of_ble_eq_true rfl)) dX2_leastOf_131 (tX2_leastOf_136 EN G hF hC hxt h9 h30 h45 h164) (sx_out G (fun z hz => (hxt z hz).elim)) ))
set_option maxHeartbeats 4000000 in
theorem tX2_leastOf_125 {x : CX} {E : Nat → Value} {Q : Rs → HS → Prop} {X9 X30 X45 X164 : Ct} (EN : EX x E) (G : Gd x cX2_leastOf "ChantRules$Machine" yX2_leastOf 7 (Option.some Jvm.ClassFile.FieldType.int) Q) (hF : x.1.2.2.2.frames = 4 ∧ x.1.2.2.2.locals = 108) (hC : x.2.2.2.2.2 = (fun _ => false)) (hxt : (∀ z ∈ x.2.2.1.2.1.exceptionTable.toList, False)) (h9 : Snd x 9 X9) (h30 : Snd x 30 X30) (h45 : Snd x 45 X45) (h164 : Snd x 164 X164) : Snd x 125 (bX2_leastOf_125 E Q X9 X30 X45 X164) := by
  unfold bX2_leastOf_125
  refine s_iconst (by decide) G.b dX2_leastOf_125 ?_
  exact (tX2_leastOf_126 EN G hF hC hxt h9 h30 h45 h164)
set_option maxHeartbeats 4000000 in
theorem tX2_leastOf_117 {x : CX} {E : Nat → Value} {Q : Rs → HS → Prop} {X9 X30 X45 X164 : Ct} (EN : EX x E) (G : Gd x cX2_leastOf "ChantRules$Machine" yX2_leastOf 7 (Option.some Jvm.ClassFile.FieldType.int) Q) (hF : x.1.2.2.2.frames = 4 ∧ x.1.2.2.2.locals = 108) (hC : x.2.2.2.2.2 = (fun _ => false)) (hxt : (∀ z ∈ x.2.2.1.2.1.exceptionTable.toList, False)) (h9 : Snd x 9 X9) (h30 : Snd x 30 X30) (h45 : Snd x 45 X45) (h164 : Snd x 164 X164) : Snd x 117 (bX2_leastOf_117 E Q X9 X30 X45 X164) := by
  unfold bX2_leastOf_117
  refine s_iald G.b G.kn dX2_leastOf_117 ?_
  refine s_icmpge (tgt := 125) G.b dX2_leastOf_118 (by decide) (tX2_leastOf_125 EN G hF hC hxt h9 h30 h45 h164) ?_
  refine s_iconst (by decide) G.b dX2_leastOf_121 ?_
  exact s_goto (tgt := 126) G.b dX2_leastOf_122 (by decide) (tX2_leastOf_126 EN G hF hC hxt h9 h30 h45 h164)
set_option maxHeartbeats 4000000 in
theorem tX2_leastOf_103 {x : CX} {E : Nat → Value} {Q : Rs → HS → Prop} {X9 X30 X45 X164 : Ct} (EN : EX x E) (G : Gd x cX2_leastOf "ChantRules$Machine" yX2_leastOf 7 (Option.some Jvm.ClassFile.FieldType.int) Q) (hF : x.1.2.2.2.frames = 4 ∧ x.1.2.2.2.locals = 108) (hC : x.2.2.2.2.2 = (fun _ => false)) (hxt : (∀ z ∈ x.2.2.1.2.1.exceptionTable.toList, False)) (h9 : Snd x 9 X9) (h30 : Snd x 30 X30) (h45 : Snd x 45 X45) (h164 : Snd x 164 X164) : Snd x 103 (bX2_leastOf_103 E Q X9 X30 X45 X164) := by
  unfold bX2_leastOf_103
  refine s_iadd G.b dX2_leastOf_103 ?_
  refine s_istore G.b (by rw [G.nl]; decide) (fun _ _ => by rw [hC]) dX2_leastOf_104 ?_
  refine s_iload_n rfl G.b dX2_leastOf_106 ?_
  refine s_iload G.b dX2_leastOf_107 ?_
  refine s_aload_n rfl G.b dX2_leastOf_109 ?_
  refine s_aload G.b dX2_leastOf_110 ?_
  exact (s_vsel (s_callF (r0 := (RX7, TX7, 4)) (w := ⟨"ChantRules$Arc", "to", "()I"⟩) (by decide) rfl G (mX7_to EN) q893 (va_Fw.moved (by decide +kernel) G.warm.alike ⟨(EN.nw q726 rfl), (EN.nw q725 rfl), (EN.nw q730 rfl), (EN.nw q728 rfl), (EN.nw q287 rfl)⟩) q727 q729 q99 q731 nmk_69 (rm_of hF (Nat.le_of_ble_eq_true rfl) (Nat.le_of_ble_eq_true rfl)) dX2_leastOf_112 (tX2_leastOf_117 EN G hF hC hxt h9 h30 h45 h164) (sx_out G (fun z hz => (hxt z hz).elim)) ) (s_callF (r0 := (RX8, TX8, 5)) (w := ⟨"ChantRules$Arc", "to", "()I"⟩) (by decide) rfl G (mX8_to EN) q893 (va_Fw.moved (by decide +kernel) G.warm.alike ⟨(EN.nw q726 rfl), (EN.nw q725 rfl), (EN.nw q735 rfl), (EN.nw q733 rfl), (EN.nw q293 rfl)⟩) q732 q734 q100 q736 nmk_69 (rm_of hF (Nat.le_of_ble_eq_true rfl) (Nat.le_of_ble_eq_true rfl)) dX2_leastOf_112 (tX2_leastOf_117 EN G hF hC hxt h9 h30 h45 h164) (sx_out G (fun z hz => (hxt z hz).elim)) ))
set_option maxHeartbeats 4000000 in
theorem tX2_leastOf_102 {x : CX} {E : Nat → Value} {Q : Rs → HS → Prop} {X9 X30 X45 X164 : Ct} (EN : EX x E) (G : Gd x cX2_leastOf "ChantRules$Machine" yX2_leastOf 7 (Option.some Jvm.ClassFile.FieldType.int) Q) (hF : x.1.2.2.2.frames = 4 ∧ x.1.2.2.2.locals = 108) (hC : x.2.2.2.2.2 = (fun _ => false)) (hxt : (∀ z ∈ x.2.2.1.2.1.exceptionTable.toList, False)) (h9 : Snd x 9 X9) (h30 : Snd x 30 X30) (h45 : Snd x 45 X45) (h164 : Snd x 164 X164) : Snd x 102 (bX2_leastOf_102 E Q X9 X30 X45 X164) := by
  unfold bX2_leastOf_102
  refine s_iconst (by decide) G.b dX2_leastOf_102 ?_
  exact (tX2_leastOf_103 EN G hF hC hxt h9 h30 h45 h164)
set_option maxHeartbeats 4000000 in
theorem tX2_leastOf_90 {x : CX} {E : Nat → Value} {Q : Rs → HS → Prop} {X9 X30 X45 X164 : Ct} (EN : EX x E) (G : Gd x cX2_leastOf "ChantRules$Machine" yX2_leastOf 7 (Option.some Jvm.ClassFile.FieldType.int) Q) (hF : x.1.2.2.2.frames = 4 ∧ x.1.2.2.2.locals = 108) (hC : x.2.2.2.2.2 = (fun _ => false)) (hxt : (∀ z ∈ x.2.2.1.2.1.exceptionTable.toList, False)) (h9 : Snd x 9 X9) (h30 : Snd x 30 X30) (h45 : Snd x 45 X45) (h164 : Snd x 164 X164) : Snd x 90 (bX2_leastOf_90 E Q X9 X30 X45 X164) := by
  unfold bX2_leastOf_90
  refine s_aload G.b dX2_leastOf_90 ?_
  refine s_inst G.b G.ow G.kn G.hts q1058 ct_8y ct_8n dX2_leastOf_92 ?_
  refine s_ifeq (tgt := 102) G.b dX2_leastOf_95 (by decide) (tX2_leastOf_102 EN G hF hC hxt h9 h30 h45 h164) ?_
  refine s_iconst (by decide) G.b dX2_leastOf_98 ?_
  exact s_goto (tgt := 103) G.b dX2_leastOf_99 (by decide) (tX2_leastOf_103 EN G hF hC hxt h9 h30 h45 h164)
set_option maxHeartbeats 4000000 in
theorem tX2_leastOf_87 {x : CX} {E : Nat → Value} {Q : Rs → HS → Prop} {X9 X30 X45 X164 : Ct} (EN : EX x E) (G : Gd x cX2_leastOf "ChantRules$Machine" yX2_leastOf 7 (Option.some Jvm.ClassFile.FieldType.int) Q) (hF : x.1.2.2.2.frames = 4 ∧ x.1.2.2.2.locals = 108) (hC : x.2.2.2.2.2 = (fun _ => false)) (hxt : (∀ z ∈ x.2.2.1.2.1.exceptionTable.toList, False)) (h9 : Snd x 9 X9) (h30 : Snd x 30 X30) (h45 : Snd x 45 X45) (h164 : Snd x 164 X164) : Snd x 87 (bX2_leastOf_87 E Q X9 X30 X45 X164) := by
  unfold bX2_leastOf_87
  exact s_goto (tgt := 103) G.b dX2_leastOf_87 (by decide) (tX2_leastOf_103 EN G hF hC hxt h9 h30 h45 h164)
set_option maxHeartbeats 4000000 in
theorem tX2_leastOf_75 {x : CX} {E : Nat → Value} {Q : Rs → HS → Prop} {X9 X30 X45 X164 : Ct} (EN : EX x E) (G : Gd x cX2_leastOf "ChantRules$Machine" yX2_leastOf 7 (Option.some Jvm.ClassFile.FieldType.int) Q) (hF : x.1.2.2.2.frames = 4 ∧ x.1.2.2.2.locals = 108) (hC : x.2.2.2.2.2 = (fun _ => false)) (hxt : (∀ z ∈ x.2.2.1.2.1.exceptionTable.toList, False)) (h9 : Snd x 9 X9) (h30 : Snd x 30 X30) (h45 : Snd x 45 X45) (h164 : Snd x 164 X164) : Snd x 75 (bX2_leastOf_75 E Q X9 X30 X45 X164) := by
  unfold bX2_leastOf_75
  refine s_iald G.b G.kn dX2_leastOf_75 ?_
  refine s_iload_n rfl G.b dX2_leastOf_76 ?_
  refine s_ifeq (tgt := 90) G.b dX2_leastOf_77 (by decide) (tX2_leastOf_90 EN G hF hC hxt h9 h30 h45 h164) ?_
  refine s_aload G.b dX2_leastOf_80 ?_
  exact (s_vsel (s_callF (r0 := (RX7, TX7, 4)) (w := ⟨"ChantRules$Arc", "weight", "()I"⟩) (by decide) rfl G (mX7_weight EN) q1019 (va_Fw.moved (by decide +kernel) G.warm.alike ⟨(EN.nw q770 rfl), (EN.nw q769 rfl), (EN.nw q774 rfl), (EN.nw q772 rfl), (EN.nw q287 rfl)⟩) q771 q773 q99 q775 nmk_17 (rm_of hF (Nat.le_of_ble_eq_true rfl) (Nat.le_of_ble_eq_true rfl)) dX2_leastOf_82 (tX2_leastOf_87 EN G hF hC hxt h9 h30 h45 h164) (sx_out G (fun z hz => (hxt z hz).elim)) ) (s_callF (r0 := (RX8, TX8, 5)) (w := ⟨"ChantRules$Arc", "weight", "()I"⟩) (by decide) rfl G (mX8_weight EN) q1019 (va_Fw.moved (by decide +kernel) G.warm.alike ⟨(EN.nw q770 rfl), (EN.nw q769 rfl), (EN.nw q779 rfl), (EN.nw q777 rfl), (EN.nw q293 rfl)⟩) q776 q778 q100 q780 nmk_17 (rm_of hF (Nat.le_of_ble_eq_true rfl) (Nat.le_of_ble_eq_true rfl)) dX2_leastOf_82 (tX2_leastOf_87 EN G hF hC hxt h9 h30 h45 h164) (sx_out G (fun z hz => (hxt z hz).elim)) ))
set_option maxHeartbeats 4000000 in
theorem tX2_leastOf_45 {x : CX} {E : Nat → Value} {Q : Rs → HS → Prop} {X9 X30 X45 X164 : Ct} (EN : EX x E) (G : Gd x cX2_leastOf "ChantRules$Machine" yX2_leastOf 7 (Option.some Jvm.ClassFile.FieldType.int) Q) (hF : x.1.2.2.2.frames = 4 ∧ x.1.2.2.2.locals = 108) (hC : x.2.2.2.2.2 = (fun _ => false)) (hxt : (∀ z ∈ x.2.2.1.2.1.exceptionTable.toList, False)) (h9 : Snd x 9 X9) (h30 : Snd x 30 X30) (h45 : Snd x 45 X45) (h164 : Snd x 164 X164) : Snd x 45 (bX2_leastOf_45 E Q X9 X30 X45 X164) := by
  unfold bX2_leastOf_45
  refine s_aload G.b dX2_leastOf_45 ?_
  refine s_callF (r0 := (RJ9, TJ9, 4)) (w := ⟨"java/util/Iterator", "hasNext", "()Z"⟩) (by decide) rfl G (mJ9_hasNext EN) q886 (va_Fw.moved (by decide +kernel) G.warm.alike ⟨(EN.nw q380 rfl), (EN.nw q379 rfl), (EN.nw q385 rfl), (EN.nw q383 rfl), (EN.nw q381 rfl)⟩) q382 q384 q91 q386 nmk_15 (rm_of hF (Nat.le_of_ble_eq_true rfl) (Nat.le_of_ble_eq_true rfl)) dX2_leastOf_47 ?_ (sx_out G (fun z hz => (hxt z hz).elim))
  refine s_ifeq (tgt := 154) G.b dX2_leastOf_52 (by decide) (tX2_leastOf_154 EN G hF hC hxt h9 h30 h45 h164) ?_
  refine s_aload G.b dX2_leastOf_55 ?_
  refine s_callF (r0 := (RJ9, TJ9, 4)) (w := ⟨"java/util/Iterator", "next", "()Ljava/lang/Object;"⟩) (by decide) rfl G (mJ9_next EN) q888 (va_Fw.moved (by decide +kernel) G.warm.alike ⟨(EN.nw q390 rfl), (EN.nw q389 rfl), (EN.nw q394 rfl), (EN.nw q392 rfl), (EN.nw q381 rfl)⟩) q391 q393 q91 q395 nmk_16 (rm_of hF (Nat.le_of_ble_eq_true rfl) (Nat.le_of_ble_eq_true rfl)) dX2_leastOf_57 ?_ (sx_out G (fun z hz => (hxt z hz).elim))
  refine s_cast G.b G.ow G.kn G.hts q889 ct_1 dX2_leastOf_62 ?_
  refine s_astore G.b (by rw [G.nl]; decide) (fun _ _ => by rw [hC]) dX2_leastOf_65 ?_
  refine s_aload_n rfl G.b dX2_leastOf_67 ?_
  refine s_aload G.b dX2_leastOf_68 ?_
  exact (s_vsel (s_callF (r0 := (RX7, TX7, 4)) (w := ⟨"ChantRules$Arc", "from", "()I"⟩) (by decide) rfl G (mX7_from EN) q891 (va_Fw.moved (by decide +kernel) G.warm.alike ⟨(EN.nw q712 rfl), (EN.nw q711 rfl), (EN.nw q716 rfl), (EN.nw q714 rfl), (EN.nw q287 rfl)⟩) q713 q715 q99 q717 nmk_70 (rm_of hF (Nat.le_of_ble_eq_true rfl) (Nat.le_of_ble_eq_true rfl)) dX2_leastOf_70 (tX2_leastOf_75 EN G hF hC hxt h9 h30 h45 h164) (sx_out G (fun z hz => (hxt z hz).elim)) ) (s_callF (r0 := (RX8, TX8, 5)) (w := ⟨"ChantRules$Arc", "from", "()I"⟩) (by decide) rfl G (mX8_from EN) q891 (va_Fw.moved (by decide +kernel) G.warm.alike ⟨(EN.nw q712 rfl), (EN.nw q711 rfl), (EN.nw q721 rfl), (EN.nw q719 rfl), (EN.nw q293 rfl)⟩) q718 q720 q100 q722 nmk_70 (rm_of hF (Nat.le_of_ble_eq_true rfl) (Nat.le_of_ble_eq_true rfl)) dX2_leastOf_70 (tX2_leastOf_75 EN G hF hC hxt h9 h30 h45 h164) (sx_out G (fun z hz => (hxt z hz).elim)) ))
set_option maxHeartbeats 4000000 in
theorem tX2_leastOf_40 {x : CX} {E : Nat → Value} {Q : Rs → HS → Prop} {X9 X30 X45 X164 : Ct} (EN : EX x E) (G : Gd x cX2_leastOf "ChantRules$Machine" yX2_leastOf 7 (Option.some Jvm.ClassFile.FieldType.int) Q) (hF : x.1.2.2.2.frames = 4 ∧ x.1.2.2.2.locals = 108) (hC : x.2.2.2.2.2 = (fun _ => false)) (hxt : (∀ z ∈ x.2.2.1.2.1.exceptionTable.toList, False)) (h9 : Snd x 9 X9) (h30 : Snd x 30 X30) (h45 : Snd x 45 X45) (h164 : Snd x 164 X164) : Snd x 40 (bX2_leastOf_40 E Q X9 X30 X45 X164) := by
  unfold bX2_leastOf_40
  refine s_callV G (mJ2_iterator EN) q884 q355 (sel_cons (r := (RJ2, TJ2, 3)) (by decide) rfl q356 (sel_nil)) q82 q357 nmk_18 (rm_of hF (Nat.le_of_ble_eq_true rfl) (Nat.le_of_ble_eq_true rfl)) dX2_leastOf_40 ?_ (sx_out G (fun z hz => (hxt z hz).elim))
  refine s_astore G.b (by rw [G.nl]; decide) (fun _ _ => by rw [hC]) dX2_leastOf_43 ?_
  exact h45
set_option maxHeartbeats 4000000 in
theorem tX2_leastOf_30 {x : CX} {E : Nat → Value} {Q : Rs → HS → Prop} {X9 X30 X45 X164 : Ct} (EN : EX x E) (G : Gd x cX2_leastOf "ChantRules$Machine" yX2_leastOf 7 (Option.some Jvm.ClassFile.FieldType.int) Q) (hF : x.1.2.2.2.frames = 4 ∧ x.1.2.2.2.locals = 108) (hC : x.2.2.2.2.2 = (fun _ => false)) (hxt : (∀ z ∈ x.2.2.1.2.1.exceptionTable.toList, False)) (h9 : Snd x 9 X9) (h30 : Snd x 30 X30) (h45 : Snd x 45 X45) (h164 : Snd x 164 X164) : Snd x 30 (bX2_leastOf_30 E Q X9 X30 X45 X164) := by
  unfold bX2_leastOf_30
  refine s_iload_n rfl G.b dX2_leastOf_30 ?_
  refine s_ifeq (tgt := 157) G.b dX2_leastOf_31 (by decide) (tX2_leastOf_157 EN G hF hC hxt h9 h30 h45 h164) ?_
  refine s_iconst (by decide) G.b dX2_leastOf_34 ?_
  refine s_istore_n rfl G.b (by rw [G.nl]; decide) (fun _ _ => by rw [hC]) dX2_leastOf_35 ?_
  refine s_aload_n rfl G.b dX2_leastOf_36 ?_
  exact (s_vsel (s_callVU (w := ⟨"ChantRules$Machine", "arcs", "()Ljava/util/ArrayList;"⟩) (owner := "ChantRules$Machine") G (mX3_arcs EN) q875 q877 (va_Decl.abs (va_Nw.warmD G.warm (EN.nw q876 rfl))) (by decide +kernel) q882 (sel_cons (r := (RX3, TX3, 3)) (by decide) rfl q881 (sel_nil)) q79 q883 nmk_108 (rm_of hF (Nat.le_of_ble_eq_true rfl) (Nat.le_of_ble_eq_true rfl)) dX2_leastOf_37 (tX2_leastOf_40 EN G hF hC hxt h9 h30 h45 h164) (sx_out G (fun z hz => (hxt z hz).elim)) ) (s_callVU (w := ⟨"ChantRules$Machine", "arcs", "()Ljava/util/ArrayList;"⟩) (owner := "ChantRules$Machine") G (mX11_arcs EN) q875 q877 (va_Decl.abs (va_Nw.warmD G.warm (EN.nw q876 rfl))) (by decide +kernel) q879 (sel_cons (r := (RX11, TX11, 3)) (by decide) rfl q878 (sel_nil)) q106 q880 nmk_108 (rm_of hF (Nat.le_of_ble_eq_true rfl) (Nat.le_of_ble_eq_true rfl)) dX2_leastOf_37 (tX2_leastOf_40 EN G hF hC hxt h9 h30 h45 h164) (sx_out G (fun z hz => (hxt z hz).elim)) ))
set_option maxHeartbeats 4000000 in
theorem tX2_leastOf_28 {x : CX} {E : Nat → Value} {Q : Rs → HS → Prop} {X9 X30 X45 X164 : Ct} (EN : EX x E) (G : Gd x cX2_leastOf "ChantRules$Machine" yX2_leastOf 7 (Option.some Jvm.ClassFile.FieldType.int) Q) (hF : x.1.2.2.2.frames = 4 ∧ x.1.2.2.2.locals = 108) (hC : x.2.2.2.2.2 = (fun _ => false)) (hxt : (∀ z ∈ x.2.2.1.2.1.exceptionTable.toList, False)) (h9 : Snd x 9 X9) (h30 : Snd x 30 X30) (h45 : Snd x 45 X45) (h164 : Snd x 164 X164) : Snd x 28 (bX2_leastOf_28 E Q X9 X30 X45 X164) := by
  unfold bX2_leastOf_28
  refine s_iconst (by decide) G.b dX2_leastOf_28 ?_
  refine s_istore_n rfl G.b (by rw [G.nl]; decide) (fun _ _ => by rw [hC]) dX2_leastOf_29 ?_
  exact h30
set_option maxHeartbeats 4000000 in
theorem tX2_leastOf_14 {x : CX} {E : Nat → Value} {Q : Rs → HS → Prop} {X9 X30 X45 X164 : Ct} (EN : EX x E) (G : Gd x cX2_leastOf "ChantRules$Machine" yX2_leastOf 7 (Option.some Jvm.ClassFile.FieldType.int) Q) (hF : x.1.2.2.2.frames = 4 ∧ x.1.2.2.2.locals = 108) (hC : x.2.2.2.2.2 = (fun _ => false)) (hxt : (∀ z ∈ x.2.2.1.2.1.exceptionTable.toList, False)) (h9 : Snd x 9 X9) (h30 : Snd x 30 X30) (h45 : Snd x 45 X45) (h164 : Snd x 164 X164) : Snd x 14 (bX2_leastOf_14 E Q X9 X30 X45 X164) := by
  unfold bX2_leastOf_14
  refine s_icmpge (tgt := 28) G.b dX2_leastOf_14 (by decide) (tX2_leastOf_28 EN G hF hC hxt h9 h30 h45 h164) ?_
  refine s_aload_n rfl G.b dX2_leastOf_17 ?_
  refine s_iload_n rfl G.b dX2_leastOf_18 ?_
  refine s_ldcI G.b G.ow G.hts q1386 dX2_leastOf_19 ?_
  refine s_iast G.b G.kn dX2_leastOf_21 ?_
  refine s_iinc (by decide) G.b (by rw [G.nl]; decide) (fun _ _ => by rw [hC]) dX2_leastOf_22 ?_
  exact s_goto (tgt := 9) G.b dX2_leastOf_25 (by decide) h9
set_option maxHeartbeats 4000000 in
theorem tX2_leastOf_9 {x : CX} {E : Nat → Value} {Q : Rs → HS → Prop} {X9 X30 X45 X164 : Ct} (EN : EX x E) (G : Gd x cX2_leastOf "ChantRules$Machine" yX2_leastOf 7 (Option.some Jvm.ClassFile.FieldType.int) Q) (hF : x.1.2.2.2.frames = 4 ∧ x.1.2.2.2.locals = 108) (hC : x.2.2.2.2.2 = (fun _ => false)) (hxt : (∀ z ∈ x.2.2.1.2.1.exceptionTable.toList, False)) (h9 : Snd x 9 X9) (h30 : Snd x 30 X30) (h45 : Snd x 45 X45) (h164 : Snd x 164 X164) : Snd x 9 (bX2_leastOf_9 E Q X9 X30 X45 X164) := by
  unfold bX2_leastOf_9
  refine s_iload_n rfl G.b dX2_leastOf_9 ?_
  refine s_aload_n rfl G.b dX2_leastOf_10 ?_
  exact (s_vsel (s_callVU (w := ⟨"ChantRules$Machine", "states", "()I"⟩) (owner := "ChantRules$Machine") G (mX3_states EN) q866 q868 (va_Decl.abs (va_Nw.warmD G.warm (EN.nw q867 rfl))) (by decide +kernel) q873 (sel_cons (r := (RX3, TX3, 3)) (by decide) rfl q872 (sel_nil)) q79 q874 nmk_115 (rm_of hF (Nat.le_of_ble_eq_true rfl) (Nat.le_of_ble_eq_true rfl)) dX2_leastOf_11 (tX2_leastOf_14 EN G hF hC hxt h9 h30 h45 h164) (sx_out G (fun z hz => (hxt z hz).elim)) ) (s_callVU (w := ⟨"ChantRules$Machine", "states", "()I"⟩) (owner := "ChantRules$Machine") G (mX11_states EN) q866 q868 (va_Decl.abs (va_Nw.warmD G.warm (EN.nw q867 rfl))) (by decide +kernel) q870 (sel_cons (r := (RX11, TX11, 3)) (by decide) rfl q869 (sel_nil)) q106 q871 nmk_115 (rm_of hF (Nat.le_of_ble_eq_true rfl) (Nat.le_of_ble_eq_true rfl)) dX2_leastOf_11 (tX2_leastOf_14 EN G hF hC hxt h9 h30 h45 h164) (sx_out G (fun z hz => (hxt z hz).elim)) ))
set_option maxHeartbeats 4000000 in
theorem tX2_leastOf_4 {x : CX} {E : Nat → Value} {Q : Rs → HS → Prop} {X9 X30 X45 X164 : Ct} (EN : EX x E) (G : Gd x cX2_leastOf "ChantRules$Machine" yX2_leastOf 7 (Option.some Jvm.ClassFile.FieldType.int) Q) (hF : x.1.2.2.2.frames = 4 ∧ x.1.2.2.2.locals = 108) (hC : x.2.2.2.2.2 = (fun _ => false)) (hxt : (∀ z ∈ x.2.2.1.2.1.exceptionTable.toList, False)) (h9 : Snd x 9 X9) (h30 : Snd x 30 X30) (h45 : Snd x 45 X45) (h164 : Snd x 164 X164) : Snd x 4 (bX2_leastOf_4 E Q X9 X30 X45 X164) := by
  unfold bX2_leastOf_4
  refine s_newa (atype := .int) G.b G.kn G.gr G.hts q191 (by decide) (by decide) rfl (fun _ h => by cases h) (by decide) rfl dX2_leastOf_4 ?_
  refine s_astore_n rfl G.b (by rw [G.nl]; decide) (fun _ _ => by rw [hC]) dX2_leastOf_6 ?_
  refine s_iconst (by decide) G.b dX2_leastOf_7 ?_
  refine s_istore_n rfl G.b (by rw [G.nl]; decide) (fun _ _ => by rw [hC]) dX2_leastOf_8 ?_
  exact h9
set_option maxHeartbeats 4000000 in
theorem tX2_leastOf_0 {x : CX} {E : Nat → Value} {Q : Rs → HS → Prop} {X9 X30 X45 X164 : Ct} (EN : EX x E) (G : Gd x cX2_leastOf "ChantRules$Machine" yX2_leastOf 7 (Option.some Jvm.ClassFile.FieldType.int) Q) (hF : x.1.2.2.2.frames = 4 ∧ x.1.2.2.2.locals = 108) (hC : x.2.2.2.2.2 = (fun _ => false)) (hxt : (∀ z ∈ x.2.2.1.2.1.exceptionTable.toList, False)) (h9 : Snd x 9 X9) (h30 : Snd x 30 X30) (h45 : Snd x 45 X45) (h164 : Snd x 164 X164) : Snd x 0 (bX2_leastOf_0 E Q X9 X30 X45 X164) := by
  unfold bX2_leastOf_0
  refine s_aload_n rfl G.b dX2_leastOf_0 ?_
  exact (s_vsel (s_callVU (w := ⟨"ChantRules$Machine", "states", "()I"⟩) (owner := "ChantRules$Machine") G (mX3_states EN) q866 q868 (va_Decl.abs (va_Nw.warmD G.warm (EN.nw q867 rfl))) (by decide +kernel) q873 (sel_cons (r := (RX3, TX3, 3)) (by decide) rfl q872 (sel_nil)) q79 q874 nmk_115 (rm_of hF (Nat.le_of_ble_eq_true rfl) (Nat.le_of_ble_eq_true rfl)) dX2_leastOf_1 (tX2_leastOf_4 EN G hF hC hxt h9 h30 h45 h164) (sx_out G (fun z hz => (hxt z hz).elim)) ) (s_callVU (w := ⟨"ChantRules$Machine", "states", "()I"⟩) (owner := "ChantRules$Machine") G (mX11_states EN) q866 q868 (va_Decl.abs (va_Nw.warmD G.warm (EN.nw q867 rfl))) (by decide +kernel) q870 (sel_cons (r := (RX11, TX11, 3)) (by decide) rfl q869 (sel_nil)) q106 q871 nmk_115 (rm_of hF (Nat.le_of_ble_eq_true rfl) (Nat.le_of_ble_eq_true rfl)) dX2_leastOf_1 (tX2_leastOf_4 EN G hF hC hxt h9 h30 h45 h164) (sx_out G (fun z hz => (hxt z hz).elim)) ))
set_option maxHeartbeats 4000000 in
theorem mX2_leastOf {l : Launch} {D : DE} {s0 : State} {E : Nat → Value} (EN : EV l D s0 E) : rMet l D s0 yX2_leastOf (ws_ yX2_leastOf cX2_leastOf 7 (Option.some Jvm.ClassFile.FieldType.int)) 4 108 (wX2_leastOf E) := by
  refine body_met (fun _ => false) EN.kn (fun w h => h) (by decide +kernel) rfl (fun av h Q hw => ?_) ?_
  · unfold wX2_leastOf at hw
    split at hw
    · exact Nat.le_of_ble_eq_true rfl
    · exact hw.elim
  · intro p e s m below meth c av h Q hxt G hw
    unfold wX2_leastOf at hw
    split at hw
    · exact tX2_leastOf_0 EN G ⟨rfl, rfl⟩ rfl hxt (fun _ _ _ h => h) (fun _ _ _ h => h) (fun _ _ _ h => h) (fun _ _ _ h => h) _ _ _ (hw (AW _ 9) (AW _ 30) (AW _ 45) (AW _ 164) (tX2_leastOf_9 EN G ⟨rfl, rfl⟩ rfl hxt (fun _ _ _ h => h) (fun _ _ _ h => h) (fun _ _ _ h => h) (fun _ _ _ h => h)) (tX2_leastOf_30 EN G ⟨rfl, rfl⟩ rfl hxt (fun _ _ _ h => h) (fun _ _ _ h => h) (fun _ _ _ h => h) (fun _ _ _ h => h)) (tX2_leastOf_45 EN G ⟨rfl, rfl⟩ rfl hxt (fun _ _ _ h => h) (fun _ _ _ h => h) (fun _ _ _ h => h) (fun _ _ _ h => h)) (tX2_leastOf_164 EN G ⟨rfl, rfl⟩ rfl hxt (fun _ _ _ h => h) (fun _ _ _ h => h) (fun _ _ _ h => h) (fun _ _ _ h => h)))
    · exact hw.elim
