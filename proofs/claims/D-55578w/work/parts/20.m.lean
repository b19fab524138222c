set_option maxRecDepth 100000
/-! ChantRules$Machine.<init>()V (X2_init) -/
def bX2_init_0 (E : Nat → Value) (Q : Rs → HS → Prop) : Ct :=
  o_aload 0 <|
  o_objInit <|
  o_return Q
def wX2_init (E : Nat → Value) : Wp := fun av h Q => match av with
  | [a0] => bX2_init_0 E Q [a0] [] h
  | _ => False
set_option maxHeartbeats 4000000 in
theorem tX2_init_0 {x : CX} {E : Nat → Value} {Q : Rs → HS → Prop} (EN : EX x E) (G : Gd x cX2_init "ChantRules$Machine" yX2_init 1 (Option.none : Option Jvm.ClassFile.FieldType) Q) (hF : x.1.2.2.2.frames = 2 ∧ x.1.2.2.2.locals = 64) (hC : x.2.2.2.2.2 = (fun _ => false)) (hxt : (∀ z ∈ x.2.2.1.2.1.exceptionTable.toList, False)) : Snd x 0 (bX2_init_0 E Q) := by
  unfold bX2_init_0
  refine s_aload_n rfl G.b dX2_init_0 ?_
  refine s_objInit G.b G.ow G.hts q141 q122 q123 G.ml (by rw [hF.1]; decide) (by rw [hF.2]; decide) dX2_init_1 ?_
  exact s_return G dX2_init_4
set_option maxHeartbeats 4000000 in
theorem mX2_init {l : Launch} {D : DE} {s0 : State} {E : Nat → Value} (EN : EV l D s0 E) : rMet l D s0 yX2_init (ws_ yX2_init cX2_init 1 (Option.none : Option Jvm.ClassFile.FieldType)) 2 64 (wX2_init E) := by
  refine body_met (fun _ => false) EN.kn (fun w h => h) (by decide +kernel) rfl (fun av h Q hw => ?_) ?_
  · unfold wX2_init at hw
    split at hw
    · exact Nat.le_of_ble_eq_true rfl
    · exact hw.elim
  · intro p e s m below meth c av h Q hxt G hw
    unfold wX2_init at hw
    split at hw
    · exact tX2_init_0 EN G ⟨rfl, rfl⟩ rfl hxt _ _ _ hw
    · exact hw.elim
/-! java/util/AbstractCollection.<init>()V (J0_init) -/
def bJ0_init_0 (E : Nat → Value) (Q : Rs → HS → Prop) : Ct :=
  o_aload 0 <|
  o_objInit <|
  o_return Q
def wJ0_init (E : Nat → Value) : Wp := fun av h Q => match av with
  | [a0] => bJ0_init_0 E Q [a0] [] h
  | _ => False
set_option maxHeartbeats 4000000 in
theorem tJ0_init_0 {x : CX} {E : Nat → Value} {Q : Rs → HS → Prop} (EN : EX x E) (G : Gd x cJ0_init "java/util/AbstractCollection" yJ0_init 1 (Option.none : Option Jvm.ClassFile.FieldType) Q) (hF : x.1.2.2.2.frames = 2 ∧ x.1.2.2.2.locals = 64) (hC : x.2.2.2.2.2 = (fun _ => false)) (hxt : (∀ z ∈ x.2.2.1.2.1.exceptionTable.toList, False)) : Snd x 0 (bJ0_init_0 E Q) := by
  unfold bJ0_init_0
  refine s_aload_n rfl G.b dJ0_init_0 ?_
  refine s_objInit G.b G.ow G.hts q153 q122 q123 G.ml (by rw [hF.1]; decide) (by rw [hF.2]; decide) dJ0_init_1 ?_
  exact s_return G dJ0_init_4
set_option maxHeartbeats 4000000 in
theorem mJ0_init {l : Launch} {D : DE} {s0 : State} {E : Nat → Value} (EN : EV l D s0 E) : rMet l D s0 yJ0_init (ws_ yJ0_init cJ0_init 1 (Option.none : Option Jvm.ClassFile.FieldType)) 2 64 (wJ0_init E) := by
  refine body_met (fun _ => false) EN.kn (fun w h => h) (by decide +kernel) rfl (fun av h Q hw => ?_) ?_
  · unfold wJ0_init at hw
    split at hw
    · exact Nat.le_of_ble_eq_true rfl
    · exact hw.elim
  · intro p e s m below meth c av h Q hxt G hw
    unfold wJ0_init at hw
    split at hw
    · exact tJ0_init_0 EN G ⟨rfl, rfl⟩ rfl hxt _ _ _ hw
    · exact hw.elim
/-! java/util/AbstractList.<init>()V (J1_init) -/
theorem nmk_0 : nm_ok yJ0_init 0 := ⟨by decide +kernel, by decide +kernel, by decide +kernel⟩
theorem fa_0 : fieldAt [14, 15] 0 "java/util/AbstractList" "modCount" "I" := fa_cons (r := (RJ19, TJ19, 4)) rfl (by decide) rfl rfl rfl (fa_cons (r := (RJ2, TJ2, 3)) rfl (by decide) rfl rfl rfl (fa_nil))
def bJ1_init_0 (E : Nat → Value) (Q : Rs → HS → Prop) : Ct :=
  o_aload 0 <|
  o_callI 1 (wJ0_init E) (x_out Q) <|
  o_aload 0 <|
  o_push (.int 0) <|
  o_putf [14, 15] 0 .int <|
  o_return Q
def wJ1_init (E : Nat → Value) : Wp := fun av h Q => match av with
  | [a0] => bJ1_init_0 E Q [a0] [] h
  | _ => False
set_option maxHeartbeats 4000000 in
theorem tJ1_init_0 {x : CX} {E : Nat → Value} {Q : Rs → HS → Prop} (EN : EX x E) (G : Gd x cJ1_init "java/util/AbstractList" yJ1_init 1 (Option.none : Option Jvm.ClassFile.FieldType) Q) (hF : x.1.2.2.2.frames = 3 ∧ x.1.2.2.2.locals = 84) (hC : x.2.2.2.2.2 = (fun _ => false)) (hxt : (∀ z ∈ x.2.2.1.2.1.exceptionTable.toList, False)) : Snd x 0 (bJ1_init_0 E Q) := by
  unfold bJ1_init_0
  refine s_aload_n rfl G.b dJ1_init_0 ?_
  refine s_callI G (mJ0_init EN) rfl q150 q151 q80 q152 nmk_0 (rm_of hF (Nat.le_of_ble_eq_true rfl) (Nat.le_of_ble_eq_true rfl)) dJ1_init_1 ?_ (sx_out G (fun z hz => (hxt z hz).elim))
  refine s_aload_n rfl G.b dJ1_init_4 ?_
  refine s_iconst (by decide) G.b dJ1_init_5 ?_
  refine s_putf G.b G.ow G.kn (G.hts _ q162) (fun _ h => h) fa_0 (la_cons (r := (RJ19, TJ19, 4)) G.hts (by decide) rfl q1490 (la_cons (r := (RJ2, TJ2, 3)) G.hts (by decide) rfl q172 (la_nil))) (by decide +kernel) dJ1_init_6 ?_
  exact s_return G dJ1_init_9
set_option maxHeartbeats 4000000 in
theorem mJ1_init {l : Launch} {D : DE} {s0 : State} {E : Nat → Value} (EN : EV l D s0 E) : rMet l D s0 yJ1_init (ws_ yJ1_init cJ1_init 1 (Option.none : Option Jvm.ClassFile.FieldType)) 3 84 (wJ1_init E) := by
  refine body_met (fun _ => false) EN.kn (fun w h => h) (by decide +kernel) rfl (fun av h Q hw => ?_) ?_
  · unfold wJ1_init at hw
    split at hw
    · exact Nat.le_of_ble_eq_true rfl
    · exact hw.elim
  · intro p e s m below meth c av h Q hxt G hw
    unfold wJ1_init at hw
    split at hw
    · exact tJ1_init_0 EN G ⟨rfl, rfl⟩ rfl hxt _ _ _ hw
    · exact hw.elim
/-! java/util/ArrayList.<init>(I)V (J2_init) -/
theorem fa_1 : fieldAt [15] 1 "java/util/ArrayList" "elementData" "[Ljava/lang/Object;" := fa_cons (r := (RJ2, TJ2, 3)) rfl (by decide) rfl rfl rfl (fa_nil)
theorem nmk_1 : nm_ok yJ1_init 0 := ⟨by decide +kernel, by decide +kernel, by decide +kernel⟩
def bJ2_init_60 (E : Nat → Value) (Q : Rs → HS → Prop) : Ct :=
  o_return Q
def bJ2_init_33 (E : Nat → Value) (Q : Rs → HS → Prop) : Ct :=
  o_no
def bJ2_init_19 (E : Nat → Value) (Q : Rs → HS → Prop) : Ct :=
  o_iload 1 <|
  o_ifne (bJ2_init_33 E Q) <|
  o_aload 0 <|
  o_push (E 15) <|
  o_putf [15] 1 (.array (.object "java/lang/Object")) <|
  (bJ2_init_60 E Q)
def bJ2_init_0 (E : Nat → Value) (Q : Rs → HS → Prop) : Ct :=
  o_aload 0 <|
  o_callI 1 (wJ1_init E) (x_out Q) <|
  o_iload 1 <|
  o_ifle (bJ2_init_19 E Q) <|
  o_aload 0 <|
  o_iload 1 <|
  o_newa 103 .null <|
  o_putf [15] 1 (.array (.object "java/lang/Object")) <|
  (bJ2_init_60 E Q)
def wJ2_init (E : Nat → Value) : Wp := fun av h Q => match av with
  | [a0, a1] => bJ2_init_0 E Q [a0, a1] [] h
  | _ => False
set_option maxHeartbeats 4000000 in
theorem tJ2_init_60 {x : CX} {E : Nat → Value} {Q : Rs → HS → Prop} (EN : EX x E) (G : Gd x cJ2_init "java/util/ArrayList" yJ2_init 2 (Option.none : Option Jvm.ClassFile.FieldType) Q) (hF : x.1.2.2.2.frames = 4 ∧ x.1.2.2.2.locals = 104) (hC : x.2.2.2.2.2 = (fun _ => false)) (hxt : (∀ z ∈ x.2.2.1.2.1.exceptionTable.toList, False)) : Snd x 60 (bJ2_init_60 E Q) := by
  unfold bJ2_init_60
  exact s_return G dJ2_init_60
set_option maxHeartbeats 4000000 in
theorem tJ2_init_33 {x : CX} {E : Nat → Value} {Q : Rs → HS → Prop} (EN : EX x E) (G : Gd x cJ2_init "java/util/ArrayList" yJ2_init 2 (Option.none : Option Jvm.ClassFile.FieldType) Q) (hF : x.1.2.2.2.frames = 4 ∧ x.1.2.2.2.locals = 104) (hC : x.2.2.2.2.2 = (fun _ => false)) (hxt : (∀ z ∈ x.2.2.1.2.1.exceptionTable.toList, False)) : Snd x 33 (bJ2_init_33 E Q) := by
  unfold bJ2_init_33
  exact s_no
set_option maxHeartbeats 4000000 in
theorem tJ2_init_19 {x : CX} {E : Nat → Value} {Q : Rs → HS → Prop} (EN : EX x E) (G : Gd x cJ2_init "java/util/ArrayList" yJ2_init 2 (Option.none : Option Jvm.ClassFile.FieldType) Q) (hF : x.1.2.2.2.frames = 4 ∧ x.1.2.2.2.locals = 104) (hC : x.2.2.2.2.2 = (fun _ => false)) (hxt : (∀ z ∈ x.2.2.1.2.1.exceptionTable.toList, False)) : Snd x 19 (bJ2_init_19 E Q) := by
  unfold bJ2_init_19
  refine s_iload_n rfl G.b dJ2_init_19 ?_
  refine s_ifne (tgt := 33) G.b dJ2_init_20 (by decide) (tJ2_init_33 EN G hF hC hxt) ?_
  refine s_aload_n rfl G.b dJ2_init_23 ?_
  refine s_getst EN G q156 (i := 15) rfl dJ2_init_24 ?_
  refine s_putf G.b G.ow G.kn (G.hts _ q158) (fun _ h => h) fa_1 (la_cons (r := (RJ2, TJ2, 3)) G.hts (by decide) rfl q168 (la_nil)) (by decide +kernel) dJ2_init_27 ?_
  exact s_goto (tgt := 60) G.b dJ2_init_30 (by decide) (tJ2_init_60 EN G hF hC hxt)
set_option maxHeartbeats 4000000 in
theorem tJ2_init_0 {x : CX} {E : Nat → Value} {Q : Rs → HS → Prop} (EN : EX x E) (G : Gd x cJ2_init "java/util/ArrayList" yJ2_init 2 (Option.none : Option Jvm.ClassFile.FieldType) Q) (hF : x.1.2.2.2.frames = 4 ∧ x.1.2.2.2.locals = 104) (hC : x.2.2.2.2.2 = (fun _ => false)) (hxt : (∀ z ∈ x.2.2.1.2.1.exceptionTable.toList, False)) : Snd x 0 (bJ2_init_0 E Q) := by
  unfold bJ2_init_0
  refine s_aload_n rfl G.b dJ2_init_0 ?_
  refine s_callI G (mJ1_init EN) rfl q147 q148 q81 q149 nmk_1 (rm_of hF (Nat.le_of_ble_eq_true rfl) (Nat.le_of_ble_eq_true rfl)) dJ2_init_1 ?_ (sx_out G (fun z hz => (hxt z hz).elim))
  refine s_iload_n rfl G.b dJ2_init_4 ?_
  refine s_ifle (tgt := 19) G.b dJ2_init_5 (by decide) (tJ2_init_19 EN G hF hC hxt) ?_
  refine s_aload_n rfl G.b dJ2_init_8 ?_
  refine s_iload_n rfl G.b dJ2_init_9 ?_
  refine s_anewa G.b G.ow G.kn G.gr G.hts q154 (va_AO.moved G.warm.alike (EN.ao q155)) (by decide) (by decide) rfl dJ2_init_10 ?_
  refine s_putf G.b G.ow G.kn (G.hts _ q158) (fun _ h => h) fa_1 (la_cons (r := (RJ2, TJ2, 3)) G.hts (by decide) rfl q168 (la_nil)) (by decide +kernel) dJ2_init_13 ?_
  exact s_goto (tgt := 60) G.b dJ2_init_16 (by decide) (tJ2_init_60 EN G hF hC hxt)
set_option maxHeartbeats 4000000 in
theorem mJ2_init {l : Launch} {D : DE} {s0 : State} {E : Nat → Value} (EN : EV l D s0 E) : rMet l D s0 yJ2_init (ws_ yJ2_init cJ2_init 2 (Option.none : Option Jvm.ClassFile.FieldType)) 4 104 (wJ2_init E) := by
  refine body_met (fun _ => false) EN.kn (fun w h => h) (by decide +kernel) rfl (fun av h Q hw => ?_) ?_
  · unfold wJ2_init at hw
    split at hw
    · exact Nat.le_of_ble_eq_true rfl
    · exact hw.elim
  · intro p e s m below meth c av h Q hxt G hw
    unfold wJ2_init at hw
    split at hw
    · exact tJ2_init_0 EN G ⟨rfl, rfl⟩ rfl hxt _ _ _ hw
    · exact hw.elim
/-! ChantRules$Rule.<init>()V (X3_init) -/
theorem fa_2 : fieldAt [2] 1 "ChantRules$Rule" "ends" "[I" := fa_cons (r := (RX3, TX3, 3)) rfl (by decide) rfl rfl rfl (fa_nil)
theorem nmk_2 : nm_ok yX2_init 0 := ⟨by decide +kernel, by decide +kernel, by decide +kernel⟩
theorem nmk_3 : nm_ok yJ2_init 1 := ⟨by decide +kernel, by decide +kernel, by decide +kernel⟩
theorem fa_3 : fieldAt [2] 0 "ChantRules$Rule" "arcs" "Ljava/util/ArrayList;" := fa_cons (r := (RX3, TX3, 3)) rfl (by decide) rfl rfl rfl (fa_nil)
theorem fa_4 : fieldAt [2] 2 "ChantRules$Rule" "states" "I" := fa_cons (r := (RX3, TX3, 3)) rfl (by decide) rfl rfl rfl (fa_nil)
def bX3_init_49 (E : Nat → Value) (Q : Rs → HS → Prop) (X31 : Ct) : Ct :=
  o_return Q
def bX3_init_31 (E : Nat → Value) (Q : Rs → HS → Prop) (X31 : Ct) : Ct :=
  o_iload 1 <|
  o_push (.int 5) <|
  o_icmpge (bX3_init_49 E Q X31) <|
  o_aload 0 <|
  o_getf [2] 1 <|
  o_iload 1 <|
  o_push (.int (-1)) <|
  o_ast [(100, .int)] <|
  o_iinc 1 1 <|
  X31
def bX3_init_0 (E : Nat → Value) (Q : Rs → HS → Prop) (X31 : Ct) : Ct :=
  o_aload 0 <|
  o_callI 1 (wX2_init E) (x_out Q) <|
  o_aload 0 <|
  o_new 15 3 [.int 0, .null, .int 0] <|
  o_dup <|
  o_push (.int 12) <|
  o_callI 2 (wJ2_init E) (x_out Q) <|
  o_putf [2] 0 (.object "java/util/ArrayList") <|
  o_aload 0 <|
  o_push (.int 5) <|
  o_newa 100 (.int 0) <|
  o_putf [2] 1 (.array .int) <|
  o_aload 0 <|
  o_push (.int 1) <|
  o_putf [2] 2 .int <|
  o_push (.int 0) <|
  o_istore 1 <|
  X31
def wX3_init (E : Nat → Value) : Wp := fun av h Q => match av with
  | [a0] => ∀ X31 : Ct, (∀ ls st h, bX3_init_31 E Q X31 ls st h → X31 ls st h) → bX3_init_0 E Q X31 [a0, jk] [] h
  | _ => False
set_option maxHeartbeats 4000000 in
theorem tX3_init_49 {x : CX} {E : Nat → Value} {Q : Rs → HS → Prop} {X31 : Ct} (EN : EX x E) (G : Gd x cX3_init "ChantRules$Rule" yX3_init 2 (Option.none : Option Jvm.ClassFile.FieldType) Q) (hF : x.1.2.2.2.frames = 5 ∧ x.1.2.2.2.locals = 125) (hC : x.2.2.2.2.2 = (fun _ => false)) (hxt : (∀ z ∈ x.2.2.1.2.1.exceptionTable.toList, False)) (h31 : Snd x 31 X31) : Snd x 49 (bX3_init_49 E Q X31) := by
  unfold bX3_init_49
  exact s_return G dX3_init_49
set_option maxHeartbeats 4000000 in
theorem tX3_init_31 {x : CX} {E : Nat → Value} {Q : Rs → HS → Prop} {X31 : Ct} (EN : EX x E) (G : Gd x cX3_init "ChantRules$Rule" yX3_init 2 (Option.none : Option Jvm.ClassFile.FieldType) Q) (hF : x.1.2.2.2.frames = 5 ∧ x.1.2.2.2.locals = 125) (hC : x.2.2.2.2.2 = (fun _ => false)) (hxt : (∀ z ∈ x.2.2.1.2.1.exceptionTable.toList, False)) (h31 : Snd x 31 X31) : Snd x 31 (bX3_init_31 E Q X31) := by
  unfold bX3_init_31
  refine s_iload_n rfl G.b dX3_init_31 ?_
  refine s_iconst (by decide) G.b dX3_init_32 ?_
  refine s_icmpge (tgt := 49) G.b dX3_init_33 (by decide) (tX3_init_49 EN G hF hC hxt h31) ?_
  refine s_aload_n rfl G.b dX3_init_36 ?_
  refine s_getf G.b G.ow G.kn (G.hts _ q179) (fun _ h => h) fa_2 dX3_init_37 ?_
  refine s_iload_n rfl G.b dX3_init_40 ?_
  refine s_iconst (by decide) G.b dX3_init_41 ?_
  refine s_iast G.b G.kn dX3_init_42 ?_
  refine s_iinc (by decide) G.b (by rw [G.nl]; decide) (fun _ _ => by rw [hC]) dX3_init_43 ?_
  exact s_goto (tgt := 31) G.b dX3_init_46 (by decide) h31
set_option maxHeartbeats 4000000 in
theorem tX3_init_0 {x : CX} {E : Nat → Value} {Q : Rs → HS → Prop} {X31 : Ct} (EN : EX x E) (G : Gd x cX3_init "ChantRules$Rule" yX3_init 2 (Option.none : Option Jvm.ClassFile.FieldType) Q) (hF : x.1.2.2.2.frames = 5 ∧ x.1.2.2.2.locals = 125) (hC : x.2.2.2.2.2 = (fun _ => false)) (hxt : (∀ z ∈ x.2.2.1.2.1.exceptionTable.toList, False)) (h31 : Snd x 31 X31) : Snd x 0 (bX3_init_0 E Q X31) := by
  unfold bX3_init_0
  refine s_aload_n rfl G.b dX3_init_0 ?_
  refine s_callIN G (mX2_init EN) rfl (va_Nw.use rfl (va_Nw.warmM G.warm (EN.nw q138 rfl))) q139 q78 q140 nmk_2 (rm_of hF (Nat.le_of_ble_eq_true rfl) (Nat.le_of_ble_eq_true rfl)) dX3_init_1 ?_ (sx_out G (fun z hz => (hxt z hz).elim))
  refine s_aload_n rfl G.b dX3_init_4 ?_
  refine s_new (C := RJ2) (T0 := TJ2) (N := 3) G.b G.ow G.kn G.gr G.hts rfl (by decide) in_J2 q142 q143 q82 tyJ2 tyJ2_ok rfl dX3_init_5 ?_
  refine s_dup G.b dX3_init_8 ?_
  refine s_bipush (by decide) G.b dX3_init_9 ?_
  refine s_callI G (mJ2_init EN) rfl q144 q145 q82 q146 nmk_3 (rm_of hF (Nat.le_of_ble_eq_true rfl) (Nat.le_of_ble_eq_true rfl)) dX3_init_11 ?_ (sx_out G (fun z hz => (hxt z hz).elim))
  refine s_putfF (r0 := (RX3, TX3, 3)) G.b G.ow G.kn (G.hts _ q175) (by rw [G.name]; rfl) rfl (by decide) (by decide) rfl (G.hts _ q184) (by decide +kernel) dX3_init_14 ?_
  refine s_aload_n rfl G.b dX3_init_17 ?_
  refine s_iconst (by decide) G.b dX3_init_18 ?_
  refine s_newa (atype := .int) G.b G.kn G.gr G.hts q191 (by decide) (by decide) rfl (fun _ h => by cases h) (by decide) rfl dX3_init_19 ?_
  refine s_putfF (r0 := (RX3, TX3, 3)) G.b G.ow G.kn (G.hts _ q179) (by rw [G.name]; rfl) rfl (by decide) (by decide) rfl (G.hts _ q186) (by decide +kernel) dX3_init_21 ?_
  refine s_aload_n rfl G.b dX3_init_24 ?_
  refine s_iconst (by decide) G.b dX3_init_25 ?_
  refine s_putf G.b G.ow G.kn (G.hts _ q180) (fun _ h => h) fa_4 (la_cons (r := (RX3, TX3, 3)) G.hts (by decide) rfl q188 (la_nil)) (by decide +kernel) dX3_init_26 ?_
  refine s_iconst (by decide) G.b dX3_init_29 ?_
  refine s_istore_n rfl G.b (by rw [G.nl]; decide) (fun _ _ => by rw [hC]) dX3_init_30 ?_
  exact h31
set_option maxHeartbeats 4000000 in
theorem mX3_init {l : Launch} {D : DE} {s0 : State} {E : Nat → Value} (EN : EV l D s0 E) : rMet l D s0 yX3_init (ws_ yX3_init cX3_init 2 (Option.none : Option Jvm.ClassFile.FieldType)) 5 125 (wX3_init E) := by
  refine body_met (fun _ => false) EN.kn (fun w h => h) (by decide +kernel) rfl (fun av h Q hw => ?_) ?_
  · unfold wX3_init at hw
    split at hw
    · exact Nat.le_of_ble_eq_true rfl
    · exact hw.elim
  · intro p e s m below meth c av h Q hxt G hw
    unfold wX3_init at hw
    split at hw
    · exact tX3_init_0 EN G ⟨rfl, rfl⟩ rfl hxt (fun _ _ _ h => h) _ _ _ (hw (AW _ 31) (tX3_init_31 EN G ⟨rfl, rfl⟩ rfl hxt (fun _ _ _ h => h)))
    · exact hw.elim
/-! ChantRules$Choir.<init>()V (X1_init) -/
theorem fa_5 : fieldAt [1] 0 "ChantRules$Choir" "rules" "[LChantRules$Rule;" := fa_cons (r := (RX1, TX1, 4)) rfl (by decide) rfl rfl rfl (fa_nil)
theorem nmk_4 : nm_ok yX3_init 0 := ⟨by decide +kernel, by decide +kernel, by decide +kernel⟩
def bX1_init_38 (E : Nat → Value) (Q : Rs → HS → Prop) (X14 : Ct) : Ct :=
  o_return Q
def bX1_init_14 (E : Nat → Value) (Q : Rs → HS → Prop) (X14 : Ct) : Ct :=
  o_iload 1 <|
  o_push (.int 2) <|
  o_icmpge (bX1_init_38 E Q X14) <|
  o_aload 0 <|
  o_getf [1] 0 <|
  o_iload 1 <|
  o_new 2 3 [.null, .null, .int 0] <|
  o_dup <|
  o_callI 1 (wX3_init E) (x_out Q) <|
  o_aast <|
  o_iinc 1 1 <|
  X14
def bX1_init_0 (E : Nat → Value) (Q : Rs → HS → Prop) (X14 : Ct) : Ct :=
  o_aload 0 <|
  o_objInit <|
  o_aload 0 <|
  o_push (.int 2) <|
  o_newa 105 .null <|
  o_putf [1] 0 (.array (.object "ChantRules$Rule")) <|
  o_push (.int 0) <|
  o_istore 1 <|
  X14
def wX1_init (E : Nat → Value) : Wp := fun av h Q => match av with
  | [a0] => ∀ X14 : Ct, (∀ ls st h, bX1_init_14 E Q X14 ls st h → X14 ls st h) → bX1_init_0 E Q X14 [a0, jk] [] h
  | _ => False
set_option maxHeartbeats 4000000 in
theorem tX1_init_38 {x : CX} {E : Nat → Value} {Q : Rs → HS → Prop} {X14 : Ct} (EN : EX x E) (G : Gd x cX1_init "ChantRules$Choir" yX1_init 2 (Option.none : Option Jvm.ClassFile.FieldType) Q) (hF : x.1.2.2.2.frames = 6 ∧ x.1.2.2.2.locals = 146) (hC : x.2.2.2.2.2 = (fun _ => false)) (hxt : (∀ z ∈ x.2.2.1.2.1.exceptionTable.toList, False)) (h14 : Snd x 14 X14) : Snd x 38 (bX1_init_38 E Q X14) := by
  unfold bX1_init_38
  exact s_return G dX1_init_38
set_option maxHeartbeats 4000000 in
theorem tX1_init_14 {x : CX} {E : Nat → Value} {Q : Rs → HS → Prop} {X14 : Ct} (EN : EX x E) (G : Gd x cX1_init "ChantRules$Choir" yX1_init 2 (Option.none : Option Jvm.ClassFile.FieldType) Q) (hF : x.1.2.2.2.frames = 6 ∧ x.1.2.2.2.locals = 146) (hC : x.2.2.2.2.2 = (fun _ => false)) (hxt : (∀ z ∈ x.2.2.1.2.1.exceptionTable.toList, False)) (h14 : Snd x 14 X14) : Snd x 14 (bX1_init_14 E Q X14) := by
  unfold bX1_init_14
  refine s_iload_n rfl G.b dX1_init_14 ?_
  refine s_iconst (by decide) G.b dX1_init_15 ?_
  refine s_icmpge (tgt := 38) G.b dX1_init_16 (by decide) (tX1_init_38 EN G hF hC hxt h14) ?_
  refine s_aload_n rfl G.b dX1_init_19 ?_
  refine s_getf G.b G.ow G.kn (G.hts _ q192) (fun _ h => h) fa_5 dX1_init_20 ?_
  refine s_iload_n rfl G.b dX1_init_23 ?_
  refine s_new (C := RX3) (T0 := TX3) (N := 3) G.b G.ow G.kn G.gr G.hts rfl (by decide) in_X3 q132 q134 q79 tyX3 tyX3_ok rfl dX1_init_24 ?_
  refine s_dup G.b dX1_init_27 ?_
  refine s_callI G (mX3_init EN) rfl q135 q136 q79 q137 nmk_4 (rm_of hF (Nat.le_of_ble_eq_true rfl) (Nat.le_of_ble_eq_true rfl)) dX1_init_28 ?_ (sx_out G (fun z hz => (hxt z hz).elim))
  refine s_aast G.b G.kn dX1_init_31 ?_
  refine s_iinc (by decide) G.b (by rw [G.nl]; decide) (fun _ _ => by rw [hC]) dX1_init_32 ?_
  exact s_goto (tgt := 14) G.b dX1_init_35 (by decide) h14
set_option maxHeartbeats 4000000 in
theorem tX1_init_0 {x : CX} {E : Nat → Value} {Q : Rs → HS → Prop} {X14 : Ct} (EN : EX x E) (G : Gd x cX1_init "ChantRules$Choir" yX1_init 2 (Option.none : Option Jvm.ClassFile.FieldType) Q) (hF : x.1.2.2.2.frames = 6 ∧ x.1.2.2.2.locals = 146) (hC : x.2.2.2.2.2 = (fun _ => false)) (hxt : (∀ z ∈ x.2.2.1.2.1.exceptionTable.toList, False)) (h14 : Snd x 14 X14) : Snd x 0 (bX1_init_0 E Q X14) := by
  unfold bX1_init_0
  refine s_aload_n rfl G.b dX1_init_0 ?_
  refine s_objInit G.b G.ow G.hts q131 q122 q123 G.ml (by rw [hF.1]; decide) (by rw [hF.2]; decide) dX1_init_1 ?_
  refine s_aload_n rfl G.b dX1_init_4 ?_
  refine s_iconst (by decide) G.b dX1_init_5 ?_
  refine s_anewa G.b G.ow G.kn G.gr G.hts q132 (va_AO.moved G.warm.alike (EN.ao q133)) (by decide) (by decide) rfl dX1_init_6 ?_
  refine s_putfF (r0 := (RX1, TX1, 4)) G.b G.ow G.kn (G.hts _ q192) (by rw [G.name]; rfl) rfl (by decide) (by decide) rfl (G.hts _ q201) (by decide +kernel) dX1_init_9 ?_
  refine s_iconst (by decide) G.b dX1_init_12 ?_
  refine s_istore_n rfl G.b (by rw [G.nl]; decide) (fun _ _ => by rw [hC]) dX1_init_13 ?_
  exact h14
set_option maxHeartbeats 4000000 in
theorem mX1_init {l : Launch} {D : DE} {s0 : State} {E : Nat → Value} (EN : EV l D s0 E) : rMet l D s0 yX1_init (ws_ yX1_init cX1_init 2 (Option.none : Option Jvm.ClassFile.FieldType)) 6 146 (wX1_init E) := by
  refine body_met (fun _ => false) EN.kn (fun w h => h) (by decide +kernel) rfl (fun av h Q hw => ?_) ?_
  · unfold wX1_init at hw
    split at hw
    · exact Nat.le_of_ble_eq_true rfl
    · exact hw.elim
  · intro p e s m below meth c av h Q hxt G hw
    unfold wX1_init at hw
    split at hw
    · exact tX1_init_0 EN G ⟨rfl, rfl⟩ rfl hxt (fun _ _ _ h => h) _ _ _ (hw (AW _ 14) (tX1_init_14 EN G ⟨rfl, rfl⟩ rfl hxt (fun _ _ _ h => h)))
    · exact hw.elim
/-! ChantRules$Sound.values()[LChantRules$Sound; (X4_values) -/
theorem ct_0 : ∀ c ∈ [107], (c, "[LChantRules$Sound;") ∈ ctab := by decide +kernel
def bX4_values_0 (E : Nat → Value) (Q : Rs → HS → Prop) : Ct :=
  o_push (E 0) <|
  o_clone 107 (.object "ChantRules$Sound") <|
  o_cast [107] <|
  o_areturn Q
def wX4_values (E : Nat → Value) : Wp := fun av h Q => match av with
  | [] => bX4_values_0 E Q [] [] h
  | _ => False
set_option maxHeartbeats 4000000 in
theorem tX4_values_0 {x : CX} {E : Nat → Value} {Q : Rs → HS → Prop} (EN : EX x E) (G : Gd x cX4_values "ChantRules$Sound" yX4_values 0 (Option.some (Jvm.ClassFile.FieldType.array (Jvm.ClassFile.FieldType.object "ChantRules$Sound"))) Q) (hF : x.1.2.2.2.frames = 8 ∧ x.1.2.2.2.locals = 200) (hC : x.2.2.2.2.2 = (fun _ => false)) (hxt : (∀ z ∈ x.2.2.1.2.1.exceptionTable.toList, False)) : Snd x 0 (bX4_values_0 E Q) := by
  unfold bX4_values_0
  refine s_getst EN G q264 (i := 0) rfl dX4_values_0 ?_
  refine s_clone107 EN G (rm_of hF (Nat.le_of_ble_eq_true rfl) (Nat.le_of_ble_eq_true rfl)) q266 dX4_values_3 ?_
  refine s_cast G.b G.ow G.kn G.hts q273 ct_0 dX4_values_6 ?_
  exact s_areturn (Or.inr ⟨_, rfl⟩) G dX4_values_9
set_option maxHeartbeats 4000000 in
theorem mX4_values {l : Launch} {D : DE} {s0 : State} {E : Nat → Value} (EN : EV l D s0 E) : rMet l D s0 yX4_values (ws_ yX4_values cX4_values 0 (Option.some (Jvm.ClassFile.FieldType.array (Jvm.ClassFile.FieldType.object "ChantRules$Sound")))) 8 200 (wX4_values E) := by
  refine body_met (fun _ => false) EN.kn (fun w h => h) (by decide +kernel) rfl (fun av h Q hw => ?_) ?_
  · unfold wX4_values at hw
    split at hw
    · exact Nat.le_of_ble_eq_true rfl
    · exact hw.elim
  · intro p e s m below meth c av h Q hxt G hw
    unfold wX4_values at hw
    split at hw
    · exact tX4_values_0 EN G ⟨rfl, rfl⟩ rfl hxt _ _ _ hw
    · exact hw.elim
/-! java/lang/Enum.ordinal()I (J8_ordinal) -/
theorem fa_6 : fieldAt [21, 22] 0 "java/lang/Enum" "ordinal" "I" := fa_cons (r := (RSnd, TSnd, 1)) rfl (by decide) rfl rfl rfl (fa_cons (r := (RSnd1, TSnd, 1)) rfl (by decide) rfl rfl rfl (fa_nil))
def bJ8_ordinal_0 (E : Nat → Value) (Q : Rs → HS → Prop) : Ct :=
  o_aload 0 <|
  o_getf [21, 22] 0 <|
  o_ireturn .int Q
def wJ8_ordinal (E : Nat → Value) : Wp := fun av h Q => match av with
  | [a0] => bJ8_ordinal_0 E Q [a0] [] h
  | _ => False
set_option maxHeartbeats 4000000 in
theorem tJ8_ordinal_0 {x : CX} {E : Nat → Value} {Q : Rs → HS → Prop} (EN : EX x E) (G : Gd x cJ8_ordinal "java/lang/Enum" yJ8_ordinal 1 (Option.some Jvm.ClassFile.FieldType.int) Q) (hF : x.1.2.2.2.frames = 2 ∧ x.1.2.2.2.locals = 64) (hC : x.2.2.2.2.2 = (fun _ => false)) (hxt : (∀ z ∈ x.2.2.1.2.1.exceptionTable.toList, False)) : Snd x 0 (bJ8_ordinal_0 E Q) := by
  unfold bJ8_ordinal_0
  refine s_aload_n rfl G.b dJ8_ordinal_0 ?_
  refine s_getf G.b G.ow G.kn (G.hts _ q2398) (fun _ h => h) fa_6 dJ8_ordinal_1 ?_
  exact s_ireturn G dJ8_ordinal_4
set_option maxHeartbeats 4000000 in
theorem mJ8_ordinal {l : Launch} {D : DE} {s0 : State} {E : Nat → Value} (EN : EV l D s0 E) : rMet l D s0 yJ8_ordinal (ws_ yJ8_ordinal cJ8_ordinal 1 (Option.some Jvm.ClassFile.FieldType.int)) 2 64 (wJ8_ordinal E) := by
  refine body_met (fun _ => false) EN.kn (fun w h => h) (by decide +kernel) rfl (fun av h Q hw => ?_) ?_
  · unfold wJ8_ordinal at hw
    split at hw
    · exact Nat.le_of_ble_eq_true rfl
    · exact hw.elim
  · intro p e s m below meth c av h Q hxt G hw
    unfold wJ8_ordinal at hw
    split at hw
    · exact tJ8_ordinal_0 EN G ⟨rfl, rfl⟩ rfl hxt _ _ _ hw
    · exact hw.elim
/-! java/lang/StringUTF16.newBytesLength(I)I (J7_newBytesLength) -/
def bJ7_newBytesLength_55 (E : Nat → Value) (Q : Rs → HS → Prop) : Ct :=
  o_iload 0 <|
  o_push (.int 1) <|
  o_ishl <|
  o_ireturn .int Q
def bJ7_newBytesLength_12 (E : Nat → Value) (Q : Rs → HS → Prop) : Ct :=
  o_iload 0 <|
  o_push (.int 1073741823) <|
  o_icmplt (bJ7_newBytesLength_55 E Q) <|
  o_no
def bJ7_newBytesLength_0 (E : Nat → Value) (Q : Rs → HS → Prop) : Ct :=
  o_iload 0 <|
  o_ifge (bJ7_newBytesLength_12 E Q) <|
  o_no
def wJ7_newBytesLength (E : Nat → Value) : Wp := fun av h Q => match av with
  | [a0] => bJ7_newBytesLength_0 E Q [a0] [] h
  | _ => False
set_option maxHeartbeats 4000000 in
theorem tJ7_newBytesLength_55 {x : CX} {E : Nat → Value} {Q : Rs → HS → Prop} (EN : EX x E) (G : Gd x cJ7_newBytesLength "java/lang/StringUTF16" yJ7_newBytesLength 1 (Option.some Jvm.ClassFile.FieldType.int) Q) (hF : x.1.2.2.2.frames = 2 ∧ x.1.2.2.2.locals = 64) (hC : x.2.2.2.2.2 = (fun _ => false)) (hxt : (∀ z ∈ x.2.2.1.2.1.exceptionTable.toList, False)) : Snd x 55 (bJ7_newBytesLength_55 E Q) := by
  unfold bJ7_newBytesLength_55
  refine s_iload_n rfl G.b dJ7_newBytesLength_55 ?_
  refine s_iconst (by decide) G.b dJ7_newBytesLength_56 ?_
  refine s_ishl G.b dJ7_newBytesLength_57 ?_
  exact s_ireturn G dJ7_newBytesLength_58
set_option maxHeartbeats 4000000 in
theorem tJ7_newBytesLength_12 {x : CX} {E : Nat → Value} {Q : Rs → HS → Prop} (EN : EX x E) (G : Gd x cJ7_newBytesLength "java/lang/StringUTF16" yJ7_newBytesLength 1 (Option.some Jvm.ClassFile.FieldType.int) Q) (hF : x.1.2.2.2.frames = 2 ∧ x.1.2.2.2.locals = 64) (hC : x.2.2.2.2.2 = (fun _ => false)) (hxt : (∀ z ∈ x.2.2.1.2.1.exceptionTable.toList, False)) : Snd x 12 (bJ7_newBytesLength_12 E Q) := by
  unfold bJ7_newBytesLength_12
  refine s_iload_n rfl G.b dJ7_newBytesLength_12 ?_
  refine s_ldcI G.b G.ow G.hts q244 dJ7_newBytesLength_13 ?_
  refine s_icmplt (tgt := 55) G.b dJ7_newBytesLength_15 (by decide) (tJ7_newBytesLength_55 EN G hF hC hxt) ?_
  exact s_no
set_option maxHeartbeats 4000000 in
theorem tJ7_newBytesLength_0 {x : CX} {E : Nat → Value} {Q : Rs → HS → Prop} (EN : EX x E) (G : Gd x cJ7_newBytesLength "java/lang/StringUTF16" yJ7_newBytesLength 1 (Option.some Jvm.ClassFile.FieldType.int) Q) (hF : x.1.2.2.2.frames = 2 ∧ x.1.2.2.2.locals = 64) (hC : x.2.2.2.2.2 = (fun _ => false)) (hxt : (∀ z ∈ x.2.2.1.2.1.exceptionTable.toList, False)) : Snd x 0 (bJ7_newBytesLength_0 E Q) := by
  unfold bJ7_newBytesLength_0
  refine s_iload_n rfl G.b dJ7_newBytesLength_0 ?_
  refine s_ifge (tgt := 12) G.b dJ7_newBytesLength_1 (by decide) (tJ7_newBytesLength_12 EN G hF hC hxt) ?_
  exact s_no
set_option maxHeartbeats 4000000 in
theorem mJ7_newBytesLength {l : Launch} {D : DE} {s0 : State} {E : Nat → Value} (EN : EV l D s0 E) : rMet l D s0 yJ7_newBytesLength (ws_ yJ7_newBytesLength cJ7_newBytesLength 1 (Option.some Jvm.ClassFile.FieldType.int)) 2 64 (wJ7_newBytesLength E) := by
  refine body_met (fun _ => false) EN.kn (fun w h => h) (by decide +kernel) rfl (fun av h Q hw => ?_) ?_
  · unfold wJ7_newBytesLength at hw
    split at hw
    · exact Nat.le_of_ble_eq_true rfl
    · exact hw.elim
  · intro p e s m below meth c av h Q hxt G hw
    unfold wJ7_newBytesLength at hw
    split at hw
    · exact tJ7_newBytesLength_0 EN G ⟨rfl, rfl⟩ rfl hxt _ _ _ hw
    · exact hw.elim
/-! java/lang/StringUTF16.newBytesFor(I)[B (J7_newBytesFor) -/
theorem nmk_5 : nm_ok yJ7_newBytesLength 1 := ⟨by decide +kernel, by decide +kernel, by decide +kernel⟩
def bJ7_newBytesFor_0 (E : Nat → Value) (Q : Rs → HS → Prop) : Ct :=
  o_iload 0 <|
  o_call 1 (wJ7_newBytesLength E) (x_out Q) <|
  o_newa 102 (.int 0) <|
  o_areturn Q
def wJ7_newBytesFor (E : Nat → Value) : Wp := fun av h Q => match av with
  | [a0] => bJ7_newBytesFor_0 E Q [a0] [] h
  | _ => False
set_option maxHeartbeats 4000000 in
theorem tJ7_newBytesFor_0 {x : CX} {E : Nat → Value} {Q : Rs → HS → Prop} (EN : EX x E) (G : Gd x cJ7_newBytesFor "java/lang/StringUTF16" yJ7_newBytesFor 1 (Option.some (Jvm.ClassFile.FieldType.array Jvm.ClassFile.FieldType.byte)) Q) (hF : x.1.2.2.2.frames = 3 ∧ x.1.2.2.2.locals = 84) (hC : x.2.2.2.2.2 = (fun _ => false)) (hxt : (∀ z ∈ x.2.2.1.2.1.exceptionTable.toList, False)) : Snd x 0 (bJ7_newBytesFor_0 E Q) := by
  unfold bJ7_newBytesFor_0
  refine s_iload_n rfl G.b dJ7_newBytesFor_0 ?_
  refine s_callS G (mJ7_newBytesLength EN) q241 q242 q87 q243 nmk_5 (rm_of hF (Nat.le_of_ble_eq_true rfl) (Nat.le_of_ble_eq_true rfl)) dJ7_newBytesFor_1 ?_ (sx_out G (fun z hz => (hxt z hz).elim))
  refine s_newa (atype := .byte) G.b G.kn G.gr G.hts q259 (by decide) (by decide) rfl (fun _ h => by cases h) (by decide) rfl dJ7_newBytesFor_4 ?_
  exact s_areturn (Or.inr ⟨_, rfl⟩) G dJ7_newBytesFor_6
set_option maxHeartbeats 4000000 in
theorem mJ7_newBytesFor {l : Launch} {D : DE} {s0 : State} {E : Nat → Value} (EN : EV l D s0 E) : rMet l D s0 yJ7_newBytesFor (ws_ yJ7_newBytesFor cJ7_newBytesFor 1 (Option.some (Jvm.ClassFile.FieldType.array Jvm.ClassFile.FieldType.byte))) 3 84 (wJ7_newBytesFor E) := by
  refine body_met (fun _ => false) EN.kn (fun w h => h) (by decide +kernel) rfl (fun av h Q hw => ?_) ?_
  · unfold wJ7_newBytesFor at hw
    split at hw
    · exact Nat.le_of_ble_eq_true rfl
    · exact hw.elim
  · intro p e s m below meth c av h Q hxt G hw
    unfold wJ7_newBytesFor at hw
    split at hw
    · exact tJ7_newBytesFor_0 EN G ⟨rfl, rfl⟩ rfl hxt _ _ _ hw
    · exact hw.elim
/-! java/lang/AbstractStringBuilder.<init>(I)V (J4_init) -/
theorem nmk_6 : nm_ok yJ7_newBytesFor 1 := ⟨by decide +kernel, by decide +kernel, by decide +kernel⟩
theorem fa_7 : fieldAt [18] 0 "java/lang/AbstractStringBuilder" "value" "[B" := fa_cons (r := (RJ5, TJ5, 4)) rfl (by decide) rfl rfl rfl (fa_nil)
theorem fa_8 : fieldAt [18] 1 "java/lang/AbstractStringBuilder" "coder" "B" := fa_cons (r := (RJ5, TJ5, 4)) rfl (by decide) rfl rfl rfl (fa_nil)
def bJ4_init_38 (E : Nat → Value) (Q : Rs → HS → Prop) : Ct :=
  o_return Q
def bJ4_init_25 (E : Nat → Value) (Q : Rs → HS → Prop) : Ct :=
  o_aload 0 <|
  o_iload 1 <|
  o_call 1 (wJ7_newBytesFor E) (x_out Q) <|
  o_putf [18] 0 (.array .byte) <|
  o_aload 0 <|
  o_push (.int 1) <|
  o_putf [18] 1 .byte <|
  (bJ4_init_38 E Q)
def bJ4_init_0 (E : Nat → Value) (Q : Rs → HS → Prop) : Ct :=
  o_aload 0 <|
  o_objInit <|
  o_push (E 8) <|
  o_ifeq (bJ4_init_25 E Q) <|
  o_aload 0 <|
  o_iload 1 <|
  o_newa 102 (.int 0) <|
  o_putf [18] 0 (.array .byte) <|
  o_aload 0 <|
  o_push (.int 0) <|
  o_putf [18] 1 .byte <|
  (bJ4_init_38 E Q)
def wJ4_init (E : Nat → Value) : Wp := fun av h Q => match av with
  | [a0, a1] => bJ4_init_0 E Q [a0, a1] [] h
  | _ => False
set_option maxHeartbeats 4000000 in
theorem tJ4_init_38 {x : CX} {E : Nat → Value} {Q : Rs → HS → Prop} (EN : EX x E) (G : Gd x cJ4_init "java/lang/AbstractStringBuilder" yJ4_init 2 (Option.none : Option Jvm.ClassFile.FieldType) Q) (hF : x.1.2.2.2.frames = 4 ∧ x.1.2.2.2.locals = 104) (hC : x.2.2.2.2.2 = (fun _ => false)) (hxt : (∀ z ∈ x.2.2.1.2.1.exceptionTable.toList, False)) : Snd x 38 (bJ4_init_38 E Q) := by
  unfold bJ4_init_38
  exact s_return G dJ4_init_38
set_option maxHeartbeats 4000000 in
theorem tJ4_init_25 {x : CX} {E : Nat → Value} {Q : Rs → HS → Prop} (EN : EX x E) (G : Gd x cJ4_init "java/lang/AbstractStringBuilder" yJ4_init 2 (Option.none : Option Jvm.ClassFile.FieldType) Q) (hF : x.1.2.2.2.frames = 4 ∧ x.1.2.2.2.locals = 104) (hC : x.2.2.2.2.2 = (fun _ => false)) (hxt : (∀ z ∈ x.2.2.1.2.1.exceptionTable.toList, False)) : Snd x 25 (bJ4_init_25 E Q) := by
  unfold bJ4_init_25
  refine s_aload_n rfl G.b dJ4_init_25 ?_
  refine s_iload_n rfl G.b dJ4_init_26 ?_
  refine s_callS G (mJ7_newBytesFor EN) q238 q239 q87 q240 nmk_6 (rm_of hF (Nat.le_of_ble_eq_true rfl) (Nat.le_of_ble_eq_true rfl)) dJ4_init_27 ?_ (sx_out G (fun z hz => (hxt z hz).elim))
  refine s_putf G.b G.ow G.kn (G.hts _ q245) (fun _ h => h) fa_7 (la_cons (r := (RJ5, TJ5, 4)) G.hts (by decide) rfl q250 (la_nil)) (by decide +kernel) dJ4_init_30 ?_
  refine s_aload_n rfl G.b dJ4_init_33 ?_
  refine s_iconst (by decide) G.b dJ4_init_34 ?_
  refine s_putf G.b G.ow G.kn (G.hts _ q246) (fun _ h => h) fa_8 (la_cons (r := (RJ5, TJ5, 4)) G.hts (by decide) rfl q252 (la_nil)) (by decide +kernel) dJ4_init_35 ?_
  exact (tJ4_init_38 EN G hF hC hxt)
set_option maxHeartbeats 4000000 in
theorem tJ4_init_0 {x : CX} {E : Nat → Value} {Q : Rs → HS → Prop} (EN : EX x E) (G : Gd x cJ4_init "java/lang/AbstractStringBuilder" yJ4_init 2 (Option.none : Option Jvm.ClassFile.FieldType) Q) (hF : x.1.2.2.2.frames = 4 ∧ x.1.2.2.2.locals = 104) (hC : x.2.2.2.2.2 = (fun _ => false)) (hxt : (∀ z ∈ x.2.2.1.2.1.exceptionTable.toList, False)) : Snd x 0 (bJ4_init_0 E Q) := by
  unfold bJ4_init_0
  refine s_aload_n rfl G.b dJ4_init_0 ?_
  refine s_objInit G.b G.ow G.hts q235 q122 q123 G.ml (by rw [hF.1]; decide) (by rw [hF.2]; decide) dJ4_init_1 ?_
  refine s_getst EN G q236 (i := 8) rfl dJ4_init_4 ?_
  refine s_ifeq (tgt := 25) G.b dJ4_init_7 (by decide) (tJ4_init_25 EN G hF hC hxt) ?_
  refine s_aload_n rfl G.b dJ4_init_10 ?_
  refine s_iload_n rfl G.b dJ4_init_11 ?_
  refine s_newa (atype := .byte) G.b G.kn G.gr G.hts q259 (by decide) (by decide) rfl (fun _ h => by cases h) (by decide) rfl dJ4_init_12 ?_
  refine s_putf G.b G.ow G.kn (G.hts _ q245) (fun _ h => h) fa_7 (la_cons (r := (RJ5, TJ5, 4)) G.hts (by decide) rfl q250 (la_nil)) (by decide +kernel) dJ4_init_14 ?_
  refine s_aload_n rfl G.b dJ4_init_17 ?_
  refine s_iconst (by decide) G.b dJ4_init_18 ?_
  refine s_putf G.b G.ow G.kn (G.hts _ q246) (fun _ h => h) fa_8 (la_cons (r := (RJ5, TJ5, 4)) G.hts (by decide) rfl q252 (la_nil)) (by decide +kernel) dJ4_init_19 ?_
  exact s_goto (tgt := 38) G.b dJ4_init_22 (by decide) (tJ4_init_38 EN G hF hC hxt)
set_option maxHeartbeats 4000000 in
theorem mJ4_init {l : Launch} {D : DE} {s0 : State} {E : Nat → Value} (EN : EV l D s0 E) : rMet l D s0 yJ4_init (ws_ yJ4_init cJ4_init 2 (Option.none : Option Jvm.ClassFile.FieldType)) 4 104 (wJ4_init E) := by
  refine body_met (fun _ => false) EN.kn (fun w h => h) (by decide +kernel) rfl (fun av h Q hw => ?_) ?_
  · unfold wJ4_init at hw
    split at hw
    · exact Nat.le_of_ble_eq_true rfl
    · exact hw.elim
  · intro p e s m below meth c av h Q hxt G hw
    unfold wJ4_init at hw
    split at hw
    · exact tJ4_init_0 EN G ⟨rfl, rfl⟩ rfl hxt _ _ _ hw
    · exact hw.elim
/-! java/lang/StringBuilder.<init>()V (J5_init) -/
theorem nmk_7 : nm_ok yJ4_init 1 := ⟨by decide +kernel, by decide +kernel, by decide +kernel⟩
def bJ5_init_0 (E : Nat → Value) (Q : Rs → HS → Prop) : Ct :=
  o_aload 0 <|
  o_push (.int 16) <|
  o_callI 2 (wJ4_init E) (x_out Q) <|
  o_return Q
def wJ5_init (E : Nat → Value) : Wp := fun av h Q => match av with
  | [a0] => bJ5_init_0 E Q [a0] [] h
  | _ => False
set_option maxHeartbeats 4000000 in
theorem tJ5_init_0 {x : CX} {E : Nat → Value} {Q : Rs → HS → Prop} (EN : EX x E) (G : Gd x cJ5_init "java/lang/StringBuilder" yJ5_init 1 (Option.none : Option Jvm.ClassFile.FieldType) Q) (hF : x.1.2.2.2.frames = 5 ∧ x.1.2.2.2.locals = 125) (hC : x.2.2.2.2.2 = (fun _ => false)) (hxt : (∀ z ∈ x.2.2.1.2.1.exceptionTable.toList, False)) : Snd x 0 (bJ5_init_0 E Q) := by
  unfold bJ5_init_0
  refine s_aload_n rfl G.b dJ5_init_0 ?_
  refine s_bipush (by decide) G.b dJ5_init_1 ?_
  refine s_callI G (mJ4_init EN) rfl q232 q233 q84 q234 nmk_7 (rm_of hF (Nat.le_of_ble_eq_true rfl) (Nat.le_of_ble_eq_true rfl)) dJ5_init_3 ?_ (sx_out G (fun z hz => (hxt z hz).elim))
  exact s_return G dJ5_init_6
set_option maxHeartbeats 4000000 in
theorem mJ5_init {l : Launch} {D : DE} {s0 : State} {E : Nat → Value} (EN : EV l D s0 E) : rMet l D s0 yJ5_init (ws_ yJ5_init cJ5_init 1 (Option.none : Option Jvm.ClassFile.FieldType)) 5 125 (wJ5_init E) := by
  refine body_met (fun _ => false) EN.kn (fun w h => h) (by decide +kernel) rfl (fun av h Q hw => ?_) ?_
  · unfold wJ5_init at hw
    split at hw
    · exact Nat.le_of_ble_eq_true rfl
    · exact hw.elim
  · intro p e s m below meth c av h Q hxt G hw
    unfold wJ5_init at hw
    split at hw
    · exact tJ5_init_0 EN G ⟨rfl, rfl⟩ rfl hxt _ _ _ hw
    · exact hw.elim
/-! java/util/ArrayDeque.<init>()V (J3_init) -/
theorem fa_9 : fieldAt [17] 0 "java/util/ArrayDeque" "elements" "[Ljava/lang/Object;" := fa_cons (r := (RJ3, TJ3, 3)) rfl (by decide) rfl rfl rfl (fa_nil)
def bJ3_init_0 (E : Nat → Value) (Q : Rs → HS → Prop) : Ct :=
  o_aload 0 <|
  o_callI 1 (wJ0_init E) (x_out Q) <|
  o_aload 0 <|
  o_push (.int 17) <|
  o_newa 103 .null <|
  o_putf [17] 0 (.array (.object "java/lang/Object")) <|
  o_return Q
def wJ3_init (E : Nat → Value) : Wp := fun av h Q => match av with
  | [a0] => bJ3_init_0 E Q [a0] [] h
  | _ => False
set_option maxHeartbeats 4000000 in
theorem tJ3_init_0 {x : CX} {E : Nat → Value} {Q : Rs → HS → Prop} (EN : EX x E) (G : Gd x cJ3_init "java/util/ArrayDeque" yJ3_init 1 (Option.none : Option Jvm.ClassFile.FieldType) Q) (hF : x.1.2.2.2.frames = 3 ∧ x.1.2.2.2.locals = 84) (hC : x.2.2.2.2.2 = (fun _ => false)) (hxt : (∀ z ∈ x.2.2.1.2.1.exceptionTable.toList, False)) : Snd x 0 (bJ3_init_0 E Q) := by
  unfold bJ3_init_0
  refine s_aload_n rfl G.b dJ3_init_0 ?_
  refine s_callI G (mJ0_init EN) rfl q215 q151 q80 q152 nmk_0 (rm_of hF (Nat.le_of_ble_eq_true rfl) (Nat.le_of_ble_eq_true rfl)) dJ3_init_1 ?_ (sx_out G (fun z hz => (hxt z hz).elim))
  refine s_aload_n rfl G.b dJ3_init_4 ?_
  refine s_bipush (by decide) G.b dJ3_init_5 ?_
  refine s_anewa G.b G.ow G.kn G.gr G.hts q216 (va_AO.moved G.warm.alike (EN.ao q155)) (by decide) (by decide) rfl dJ3_init_7 ?_
  refine s_putf G.b G.ow G.kn (G.hts _ q217) (fun _ h => h) fa_9 (la_cons (r := (RJ3, TJ3, 3)) G.hts (by decide) rfl q220 (la_nil)) (by decide +kernel) dJ3_init_10 ?_
  exact s_return G dJ3_init_13
set_option maxHeartbeats 4000000 in
theorem mJ3_init {l : Launch} {D : DE} {s0 : State} {E : Nat → Value} (EN : EV l D s0 E) : rMet l D s0 yJ3_init (ws_ yJ3_init cJ3_init 1 (Option.none : Option Jvm.ClassFile.FieldType)) 3 84 (wJ3_init E) := by
  refine body_met (fun _ => false) EN.kn (fun w h => h) (by decide +kernel) rfl (fun av h Q hw => ?_) ?_
  · unfold wJ3_init at hw
    split at hw
    · exact Nat.le_of_ble_eq_true rfl
    · exact hw.elim
  · intro p e s m below meth c av h Q hxt G hw
    unfold wJ3_init at hw
    split at hw
    · exact tJ3_init_0 EN G ⟨rfl, rfl⟩ rfl hxt _ _ _ hw
    · exact hw.elim
/-! ChantRules.<init>()V (X0_init) -/
theorem nmk_8 : nm_ok ⟨"ChantRules$Sound", "ordinal", "()I"⟩ 0 := ⟨by decide +kernel, by decide +kernel, by decide +kernel⟩
theorem fa_10 : fieldAt [0] 0 "ChantRules" "hears" "[LChantRules$Test;" := fa_cons (r := (RX0, TX0, 10)) rfl (by decide) rfl rfl rfl (fa_nil)
theorem nmk_9 : nm_ok yX1_init 0 := ⟨by decide +kernel, by decide +kernel, by decide +kernel⟩
theorem fa_11 : fieldAt [0] 1 "ChantRules" "choir" "LChantRules$Choir;" := fa_cons (r := (RX0, TX0, 10)) rfl (by decide) rfl rfl rfl (fa_nil)
theorem nmk_10 : nm_ok yJ3_init 0 := ⟨by decide +kernel, by decide +kernel, by decide +kernel⟩
theorem fa_12 : fieldAt [0] 3 "ChantRules" "past" "Ljava/util/ArrayDeque;" := fa_cons (r := (RX0, TX0, 10)) rfl (by decide) rfl rfl rfl (fa_nil)
theorem nmk_11 : nm_ok yJ5_init 0 := ⟨by decide +kernel, by decide +kernel, by decide +kernel⟩
theorem fa_13 : fieldAt [0] 8 "ChantRules" "text" "Ljava/lang/StringBuilder;" := fa_cons (r := (RX0, TX0, 10)) rfl (by decide) rfl rfl rfl (fa_nil)
theorem fa_14 : fieldAt [0] 9 "ChantRules" "line" "Ljava/lang/String;" := fa_cons (r := (RX0, TX0, 10)) rfl (by decide) rfl rfl rfl (fa_nil)
theorem nmk_12 : nm_ok yX4_values 0 := ⟨by decide +kernel, by decide +kernel, by decide +kernel⟩
def bX0_init_97 (E : Nat → Value) (Q : Rs → HS → Prop) (X60 : Ct) : Ct :=
  o_return Q
def bX0_init_60 (E : Nat → Value) (Q : Rs → HS → Prop) (X60 : Ct) : Ct :=
  o_iload 3 <|
  o_iload 2 <|
  o_icmpge (bX0_init_97 E Q X60) <|
  o_aload 1 <|
  o_iload 3 <|
  o_ald [103, 104, 105, 106, 107] <|
  o_astore 4 <|
  o_aload 4 <|
  o_callV [21, 22] 1 (wJ8_ordinal E) (x_out Q) <|
  o_istore 5 <|
  o_aload 0 <|
  o_getf [0] 0 <|
  o_iload 5 <|
  o_iload 5 <|
  o_lam <|
  o_aast <|
  o_iinc 3 1 <|
  X60
def bX0_init_0 (E : Nat → Value) (Q : Rs → HS → Prop) (X60 : Ct) : Ct :=
  o_aload 0 <|
  o_objInit <|
  o_aload 0 <|
  o_push (.int 5) <|
  o_newa 104 .null <|
  o_putf [0] 0 (.array (.object "ChantRules$Test")) <|
  o_aload 0 <|
  o_new 1 4 [.null, .int 0, .int 0, .int 0] <|
  o_dup <|
  o_callI 1 (wX1_init E) (x_out Q) <|
  o_putf [0] 1 (.object "ChantRules$Choir") <|
  o_aload 0 <|
  o_new 17 3 [.null, .int 0, .int 0] <|
  o_dup <|
  o_callI 1 (wJ3_init E) (x_out Q) <|
  o_putf [0] 3 (.object "java/util/ArrayDeque") <|
  o_aload 0 <|
  o_new 18 4 [.null, .int 0, .int 0, .int 0] <|
  o_dup <|
  o_callI 1 (wJ5_init E) (x_out Q) <|
  o_putf [0] 8 (.object "java/lang/StringBuilder") <|
  o_aload 0 <|
  o_push (E 100) <|
  o_putf [0] 9 (.object "java/lang/String") <|
  o_call 0 (wX4_values E) (x_out Q) <|
  o_astore 1 <|
  o_aload 1 <|
  o_alen <|
  o_istore 2 <|
  o_push (.int 0) <|
  o_istore 3 <|
  X60
def wX0_init (E : Nat → Value) : Wp := fun av h Q => match av with
  | [a0] => ∀ X60 : Ct, (∀ ls st h, bX0_init_60 E Q X60 ls st h → X60 ls st h) → bX0_init_0 E Q X60 [a0, jk, jk, jk, jk, jk] [] h
  | _ => False
set_option maxHeartbeats 4000000 in
theorem tX0_init_97 {x : CX} {E : Nat → Value} {Q : Rs → HS → Prop} {X60 : Ct} (EN : EX x E) (G : Gd x cX0_init "ChantRules" yX0_init 6 (Option.none : Option Jvm.ClassFile.FieldType) Q) (hF : x.1.2.2.2.frames = 9 ∧ x.1.2.2.2.locals = 3300) (hC : x.2.2.2.2.2 = (fun _ => false)) (hxt : (∀ z ∈ x.2.2.1.2.1.exceptionTable.toList, False)) (h60 : Snd x 60 X60) : Snd x 97 (bX0_init_97 E Q X60) := by
  unfold bX0_init_97
  exact s_return G dX0_init_97
set_option maxHeartbeats 4000000 in
theorem tX0_init_60 {x : CX} {E : Nat → Value} {Q : Rs → HS → Prop} {X60 : Ct} (EN : EX x E) (G : Gd x cX0_init "ChantRules" yX0_init 6 (Option.none : Option Jvm.ClassFile.FieldType) Q) (hF : x.1.2.2.2.frames = 9 ∧ x.1.2.2.2.locals = 3300) (hC : x.2.2.2.2.2 = (fun _ => false)) (hxt : (∀ z ∈ x.2.2.1.2.1.exceptionTable.toList, False)) (h60 : Snd x 60 X60) : Snd x 60 (bX0_init_60 E Q X60) := by
  unfold bX0_init_60
  refine s_iload_n rfl G.b dX0_init_60 ?_
  refine s_iload_n rfl G.b dX0_init_61 ?_
  refine s_icmpge (tgt := 97) G.b dX0_init_62 (by decide) (tX0_init_97 EN G hF hC hxt h60) ?_
  refine s_aload_n rfl G.b dX0_init_65 ?_
  refine s_iload_n rfl G.b dX0_init_66 ?_
  refine s_aald G.b G.kn dX0_init_67 ?_
  refine s_astore G.b (by rw [G.nl]; decide) (fun _ _ => by rw [hC]) dX0_init_68 ?_
  refine s_aload G.b dX0_init_70 ?_
  refine s_callVU (w := ⟨"ChantRules$Sound", "ordinal", "()I"⟩) (owner := "java/lang/Enum") G (mJ8_ordinal EN) q274 q275 (va_Decl.of (G.hts _ q279) (G.hts _ q280)) (by decide +kernel) q279 (sel_cons (r := (RSnd, TSnd, 1)) (by decide) rfl q277 (sel_cons (r := (RSnd1, TSnd, 1)) (by decide) rfl q278 (sel_nil))) q88 q280 nmk_8 (rm_of hF (Nat.le_of_ble_eq_true rfl) (Nat.le_of_ble_eq_true rfl)) dX0_init_72 ?_ (sx_out G (fun z hz => (hxt z hz).elim))
  refine s_istore G.b (by rw [G.nl]; decide) (fun _ _ => by rw [hC]) dX0_init_75 ?_
  refine s_aload_n rfl G.b dX0_init_77 ?_
  refine s_getf G.b G.ow G.kn (G.hts _ q299) (fun _ h => h) fa_10 dX0_init_78 ?_
  refine s_iload G.b dX0_init_81 ?_
  refine s_iload G.b dX0_init_83 ?_
  refine s_lam EN G (rm_of hF (Nat.le_of_ble_eq_true rfl) (Nat.le_of_ble_eq_true rfl)) dX0_init_85 ?_
  refine s_aast G.b G.kn dX0_init_90 ?_
  refine s_iinc (by decide) G.b (by rw [G.nl]; decide) (fun _ _ => by rw [hC]) dX0_init_91 ?_
  exact s_goto (tgt := 60) G.b dX0_init_94 (by decide) h60
set_option maxHeartbeats 4000000 in
theorem tX0_init_0 {x : CX} {E : Nat → Value} {Q : Rs → HS → Prop} {X60 : Ct} (EN : EX x E) (G : Gd x cX0_init "ChantRules" yX0_init 6 (Option.none : Option Jvm.ClassFile.FieldType) Q) (hF : x.1.2.2.2.frames = 9 ∧ x.1.2.2.2.locals = 3300) (hC : x.2.2.2.2.2 = (fun _ => false)) (hxt : (∀ z ∈ x.2.2.1.2.1.exceptionTable.toList, False)) (h60 : Snd x 60 X60) : Snd x 0 (bX0_init_0 E Q X60) := by
  unfold bX0_init_0
  refine s_aload_n rfl G.b dX0_init_0 ?_
  refine s_objInit G.b G.ow G.hts q121 q122 q123 G.ml (by rw [hF.1]; decide) (by rw [hF.2]; decide) dX0_init_1 ?_
  refine s_aload_n rfl G.b dX0_init_4 ?_
  refine s_iconst (by decide) G.b dX0_init_5 ?_
  refine s_anewa G.b G.ow G.kn G.gr G.hts q124 (va_AO.moved G.warm.alike (EN.ao q125)) (by decide) (by decide) rfl dX0_init_6 ?_
  refine s_putfF (r0 := (RX0, TX0, 10)) G.b G.ow G.kn (G.hts _ q299) (by rw [G.name]; rfl) rfl (by decide) (by decide) rfl (G.hts _ q310) (by decide +kernel) dX0_init_9 ?_
  refine s_aload_n rfl G.b dX0_init_12 ?_
  refine s_new (C := RX1) (T0 := TX1) (N := 4) G.b G.ow G.kn G.gr G.hts rfl (by decide) in_X1 q126 q127 q77 tyX1 tyX1_ok rfl dX0_init_13 ?_
  refine s_dup G.b dX0_init_16 ?_
  refine s_callI G (mX1_init EN) rfl q128 q129 q77 q130 nmk_9 (rm_of hF (Nat.le_of_ble_eq_true rfl) (Nat.le_of_ble_eq_true rfl)) dX0_init_17 ?_ (sx_out G (fun z hz => (hxt z hz).elim))
  refine s_putf G.b G.ow G.kn (G.hts _ q300) (fun _ h => h) fa_11 (la_cons (r := (RX0, TX0, 10)) G.hts (by decide) rfl q312 (la_nil)) (by decide +kernel) dX0_init_20 ?_
  refine s_aload_n rfl G.b dX0_init_23 ?_
  refine s_new (C := RJ3) (T0 := TJ3) (N := 3) G.b G.ow G.kn G.gr G.hts rfl (by decide) in_J3 q210 q211 q83 tyJ3 tyJ3_ok rfl dX0_init_24 ?_
  refine s_dup G.b dX0_init_27 ?_
  refine s_callI G (mJ3_init EN) rfl q212 q213 q83 q214 nmk_10 (rm_of hF (Nat.le_of_ble_eq_true rfl) (Nat.le_of_ble_eq_true rfl)) dX0_init_28 ?_ (sx_out G (fun z hz => (hxt z hz).elim))
  refine s_putfF (r0 := (RX0, TX0, 10)) G.b G.ow G.kn (G.hts _ q302) (by rw [G.name]; rfl) rfl (by decide) (by decide) rfl (G.hts _ q316) (by decide +kernel) dX0_init_31 ?_
  refine s_aload_n rfl G.b dX0_init_34 ?_
  refine s_new (C := RJ5) (T0 := TJ5) (N := 4) G.b G.ow G.kn G.gr G.hts rfl (by decide) in_J5 q227 q228 q85 tyJ5 tyJ5_ok rfl dX0_init_35 ?_
  refine s_dup G.b dX0_init_38 ?_
  refine s_callI G (mJ5_init EN) rfl q229 q230 q85 q231 nmk_11 (rm_of hF (Nat.le_of_ble_eq_true rfl) (Nat.le_of_ble_eq_true rfl)) dX0_init_39 ?_ (sx_out G (fun z hz => (hxt z hz).elim))
  refine s_putfF (r0 := (RX0, TX0, 10)) G.b G.ow G.kn (G.hts _ q307) (by rw [G.name]; rfl) rfl (by decide) (by decide) rfl (G.hts _ q326) (by decide +kernel) dX0_init_42 ?_
  refine s_aload_n rfl G.b dX0_init_45 ?_
  refine s_ldcSt EN G (i := 0) rfl dX0_init_46 ?_
  refine s_putf G.b G.ow G.kn (G.hts _ q309) (fun _ h => h) fa_14 (la_cons (r := (RX0, TX0, 10)) G.hts (by decide) rfl q328 (la_nil)) (by decide +kernel) dX0_init_48 ?_
  refine s_callS G (mX4_values EN) q261 q262 q89 q263 nmk_12 (rm_of hF (Nat.le_of_ble_eq_true rfl) (Nat.le_of_ble_eq_true rfl)) dX0_init_51 ?_ (sx_out G (fun z hz => (hxt z hz).elim))
  refine s_astore_n rfl G.b (by rw [G.nl]; decide) (fun _ _ => by rw [hC]) dX0_init_54 ?_
  refine s_aload_n rfl G.b dX0_init_55 ?_
  refine s_alen G.b G.kn dX0_init_56 ?_
  refine s_istore_n rfl G.b (by rw [G.nl]; decide) (fun _ _ => by rw [hC]) dX0_init_57 ?_
  refine s_iconst (by decide) G.b dX0_init_58 ?_
  refine s_istore_n rfl G.b (by rw [G.nl]; decide) (fun _ _ => by rw [hC]) dX0_init_59 ?_
  exact h60
set_option maxHeartbeats 4000000 in
theorem mX0_init {l : Launch} {D : DE} {s0 : State} {E : Nat → Value} (EN : EV l D s0 E) : rMet l D s0 yX0_init (ws_ yX0_init cX0_init 6 (Option.none : Option Jvm.ClassFile.FieldType)) 9 3300 (wX0_init E) := by
  refine body_met (fun _ => false) EN.kn (fun w h => h) (by decide +kernel) rfl (fun av h Q hw => ?_) ?_
  · unfold wX0_init at hw
    split at hw
    · exact Nat.le_of_ble_eq_true rfl
    · exact hw.elim
  · intro p e s m below meth c av h Q hxt G hw
    unfold wX0_init at hw
    split at hw
    · exact tX0_init_0 EN G ⟨rfl, rfl⟩ rfl hxt (fun _ _ _ h => h) _ _ _ (hw (AW _ 60) (tX0_init_60 EN G ⟨rfl, rfl⟩ rfl hxt (fun _ _ _ h => h)))
    · exact hw.elim
/-! ChantRules$Breathed.weight()I (X7_weight) -/
theorem fa_15 : fieldAt [10] 3 "ChantRules$Breathed" "weight" "I" := fa_cons (r := (RX7, TX7, 4)) rfl (by decide) rfl rfl rfl (fa_nil)
def bX7_weight_0 (E : Nat → Value) (Q : Rs → HS → Prop) : Ct :=
  o_aload 0 <|
  o_getf [10] 3 <|
  o_ireturn .int Q
def wX7_weight (E : Nat → Value) : Wp := fun av h Q => match av with
  | [a0] => bX7_weight_0 E Q [a0] [] h
  | _ => False
set_option maxHeartbeats 4000000 in
theorem tX7_weight_0 {x : CX} {E : Nat → Value} {Q : Rs → HS → Prop} (EN : EX x E) (G : Gd x cX7_weight "ChantRules$Breathed" yX7_weight 1 (Option.some Jvm.ClassFile.FieldType.int) Q) (hF : x.1.2.2.2.frames = 2 ∧ x.1.2.2.2.locals = 64) (hC : x.2.2.2.2.2 = (fun _ => false)) (hxt : (∀ z ∈ x.2.2.1.2.1.exceptionTable.toList, False)) : Snd x 0 (bX7_weight_0 E Q) := by
  unfold bX7_weight_0
  refine s_aload_n rfl G.b dX7_weight_0 ?_
  refine s_getf G.b G.ow G.kn (G.hts _ q645) (fun _ h => h) fa_15 dX7_weight_1 ?_
  exact s_ireturn G dX7_weight_4
set_option maxHeartbeats 4000000 in
theorem mX7_weight {l : Launch} {D : DE} {s0 : State} {E : Nat → Value} (EN : EV l D s0 E) : rMet l D s0 yX7_weight (ws_ yX7_weight cX7_weight 1 (Option.some Jvm.ClassFile.FieldType.int)) 2 64 (wX7_weight E) := by
  refine body_met (fun _ => false) EN.kn (fun w h => h) (by decide +kernel) rfl (fun av h Q hw => ?_) ?_
  · unfold wX7_weight at hw
    split at hw
    · exact Nat.le_of_ble_eq_true rfl
    · exact hw.elim
  · intro p e s m below meth c av h Q hxt G hw
    unfold wX7_weight at hw
    split at hw
    · exact tX7_weight_0 EN G ⟨rfl, rfl⟩ rfl hxt _ _ _ hw
    · exact hw.elim
/-! ChantRules$Heard.weight()I (X8_weight) -/
theorem fa_16 : fieldAt [11] 4 "ChantRules$Heard" "weight" "I" := fa_cons (r := (RX8, TX8, 5)) rfl (by decide) rfl rfl rfl (fa_nil)
def bX8_weight_0 (E : Nat → Value) (Q : Rs → HS → Prop) : Ct :=
  o_aload 0 <|
  o_getf [11] 4 <|
  o_ireturn .int Q
def wX8_weight (E : Nat → Value) : Wp := fun av h Q => match av with
  | [a0] => bX8_weight_0 E Q [a0] [] h
  | _ => False
set_option maxHeartbeats 4000000 in
theorem tX8_weight_0 {x : CX} {E : Nat → Value} {Q : Rs → HS → Prop} (EN : EX x E) (G : Gd x cX8_weight "ChantRules$Heard" yX8_weight 1 (Option.some Jvm.ClassFile.FieldType.int) Q) (hF : x.1.2.2.2.frames = 2 ∧ x.1.2.2.2.locals = 64) (hC : x.2.2.2.2.2 = (fun _ => false)) (hxt : (∀ z ∈ x.2.2.1.2.1.exceptionTable.toList, False)) : Snd x 0 (bX8_weight_0 E Q) := by
  unfold bX8_weight_0
  refine s_aload_n rfl G.b dX8_weight_0 ?_
  refine s_getf G.b G.ow G.kn (G.hts _ q668) (fun _ h => h) fa_16 dX8_weight_1 ?_
  exact s_ireturn G dX8_weight_4
set_option maxHeartbeats 4000000 in
theorem mX8_weight {l : Launch} {D : DE} {s0 : State} {E : Nat → Value} (EN : EV l D s0 E) : rMet l D s0 yX8_weight (ws_ yX8_weight cX8_weight 1 (Option.some Jvm.ClassFile.FieldType.int)) 2 64 (wX8_weight E) := by
  refine body_met (fun _ => false) EN.kn (fun w h => h) (by decide +kernel) rfl (fun av h Q hw => ?_) ?_
  · unfold wX8_weight at hw
    split at hw
    · exact Nat.le_of_ble_eq_true rfl
    · exact hw.elim
  · intro p e s m below meth c av h Q hxt G hw
    unfold wX8_weight at hw
    split at hw
    · exact tX8_weight_0 EN G ⟨rfl, rfl⟩ rfl hxt _ _ _ hw
    · exact hw.elim
/-! java/util/ArrayList$Itr.<init>(Ljava/util/ArrayList;)V (J9_init) -/
theorem fa_17 : fieldAt [20] 3 "java/util/ArrayList$Itr" "this$0" "Ljava/util/ArrayList;" := fa_cons (r := (RJ9, TJ9, 4)) rfl (by decide) rfl rfl rfl (fa_nil)
theorem fa_18 : fieldAt [20] 1 "java/util/ArrayList$Itr" "lastRet" "I" := fa_cons (r := (RJ9, TJ9, 4)) rfl (by decide) rfl rfl rfl (fa_nil)
theorem fa_19 : fieldAt [20] 2 "java/util/ArrayList$Itr" "expectedModCount" "I" := fa_cons (r := (RJ9, TJ9, 4)) rfl (by decide) rfl rfl rfl (fa_nil)
def bJ9_init_0 (E : Nat → Value) (Q : Rs → HS → Prop) : Ct :=
  o_aload 0 <|
  o_aload 1 <|
  o_putf [20] 3 (.object "java/util/ArrayList") <|
  o_aload 0 <|
  o_objInit <|
  o_aload 0 <|
  o_push (.int (-1)) <|
  o_putf [20] 1 .int <|
  o_aload 0 <|
  o_aload 0 <|
  o_getf [20] 3 <|
  o_getf [14, 15] 0 <|
  o_putf [20] 2 .int <|
  o_return Q
def wJ9_init (E : Nat → Value) : Wp := fun av h Q => match av with
  | [a0, a1] => bJ9_init_0 E Q [a0, a1] [] h
  | _ => False
set_option maxHeartbeats 4000000 in
theorem tJ9_init_0 {x : CX} {E : Nat → Value} {Q : Rs → HS → Prop} (EN : EX x E) (G : Gd x cJ9_init "java/util/ArrayList$Itr" yJ9_init 2 (Option.none : Option Jvm.ClassFile.FieldType) Q) (hF : x.1.2.2.2.frames = 2 ∧ x.1.2.2.2.locals = 64) (hC : x.2.2.2.2.2 = (fun _ => false)) (hxt : (∀ z ∈ x.2.2.1.2.1.exceptionTable.toList, False)) : Snd x 0 (bJ9_init_0 E Q) := by
  unfold bJ9_init_0
  refine s_aload_n rfl G.b dJ9_init_0 ?_
  refine s_aload_n rfl G.b dJ9_init_1 ?_
  refine s_putfF (r0 := (RJ9, TJ9, 4)) G.b G.ow G.kn (G.hts _ q367) (by rw [G.name]; rfl) rfl (by decide) (by decide) rfl (G.hts _ q374) (by decide +kernel) dJ9_init_2 ?_
  refine s_aload_n rfl G.b dJ9_init_5 ?_
  refine s_objInit G.b G.ow G.hts q363 q122 q123 G.ml (by rw [hF.1]; decide) (by rw [hF.2]; decide) dJ9_init_6 ?_
  refine s_aload_n rfl G.b dJ9_init_9 ?_
  refine s_iconst (by decide) G.b dJ9_init_10 ?_
  refine s_putf G.b G.ow G.kn (G.hts _ q365) (fun _ h => h) fa_18 (la_cons (r := (RJ9, TJ9, 4)) G.hts (by decide) rfl q370 (la_nil)) (by decide +kernel) dJ9_init_11 ?_
  refine s_aload_n rfl G.b dJ9_init_14 ?_
  refine s_aload_n rfl G.b dJ9_init_15 ?_
  refine s_getf G.b G.ow G.kn (G.hts _ q367) (fun _ h => h) fa_17 dJ9_init_16 ?_
  refine s_getf G.b G.ow G.kn (G.hts _ q163) (u_same (G.hts _ q164)) fa_0 dJ9_init_19 ?_
  refine s_putf G.b G.ow G.kn (G.hts _ q366) (fun _ h => h) fa_19 (la_cons (r := (RJ9, TJ9, 4)) G.hts (by decide) rfl q372 (la_nil)) (by decide +kernel) dJ9_init_22 ?_
  exact s_return G dJ9_init_25
set_option maxHeartbeats 4000000 in
theorem mJ9_init {l : Launch} {D : DE} {s0 : State} {E : Nat → Value} (EN : EV l D s0 E) : rMet l D s0 yJ9_init (ws_ yJ9_init cJ9_init 2 (Option.none : Option Jvm.ClassFile.FieldType)) 2 64 (wJ9_init E) := by
  refine body_met (fun _ => false) EN.kn (fun w h => h) (by decide +kernel) rfl (fun av h Q hw => ?_) ?_
  · unfold wJ9_init at hw
    split at hw
    · exact Nat.le_of_ble_eq_true rfl
    · exact hw.elim
  · intro p e s m below meth c av h Q hxt G hw
    unfold wJ9_init at hw
    split at hw
    · exact tJ9_init_0 EN G ⟨rfl, rfl⟩ rfl hxt _ _ _ hw
    · exact hw.elim
/-! java/util/ArrayList.iterator()Ljava/util/Iterator; (J2_iterator) -/
theorem nmk_13 : nm_ok yJ9_init 1 := ⟨by decide +kernel, by decide +kernel, by decide +kernel⟩
def bJ2_iterator_0 (E : Nat → Value) (Q : Rs → HS → Prop) : Ct :=
  o_new 20 4 [.int 0, .int 0, .int 0, .null] <|
  o_dup <|
  o_aload 0 <|
  o_callI 2 (wJ9_init E) (x_out Q) <|
  o_areturn Q
def wJ2_iterator (E : Nat → Value) : Wp := fun av h Q => match av with
  | [a0] => bJ2_iterator_0 E Q [a0] [] h
  | _ => False
set_option maxHeartbeats 4000000 in
theorem tJ2_iterator_0 {x : CX} {E : Nat → Value} {Q : Rs → HS → Prop} (EN : EX x E) (G : Gd x cJ2_iterator "java/util/ArrayList" yJ2_iterator 1 (Option.some (Jvm.ClassFile.FieldType.object "java/util/Iterator")) Q) (hF : x.1.2.2.2.frames = 3 ∧ x.1.2.2.2.locals = 85) (hC : x.2.2.2.2.2 = (fun _ => false)) (hxt : (∀ z ∈ x.2.2.1.2.1.exceptionTable.toList, False)) : Snd x 0 (bJ2_iterator_0 E Q) := by
  unfold bJ2_iterator_0
  refine s_new (C := RJ9) (T0 := TJ9) (N := 4) G.b G.ow G.kn G.gr G.hts rfl (by decide) in_J9 q358 q359 q91 tyJ9 tyJ9_ok rfl dJ2_iterator_0 ?_
  refine s_dup G.b dJ2_iterator_3 ?_
  refine s_aload_n rfl G.b dJ2_iterator_4 ?_
  refine s_callI G (mJ9_init EN) rfl q360 q361 q91 q362 nmk_13 (rm_of hF (Nat.le_of_ble_eq_true rfl) (Nat.le_of_ble_eq_true rfl)) dJ2_iterator_5 ?_ (sx_out G (fun z hz => (hxt z hz).elim))
  exact s_areturn (Or.inl ⟨_, rfl⟩) G dJ2_iterator_8
set_option maxHeartbeats 4000000 in
theorem mJ2_iterator {l : Launch} {D : DE} {s0 : State} {E : Nat → Value} (EN : EV l D s0 E) : rMet l D s0 yJ2_iterator (ws_ yJ2_iterator cJ2_iterator 1 (Option.some (Jvm.ClassFile.FieldType.object "java/util/Iterator"))) 3 85 (wJ2_iterator E) := by
  refine body_met (fun _ => false) EN.kn (fun w h => h) (by decide +kernel) rfl (fun av h Q hw => ?_) ?_
  · unfold wJ2_iterator at hw
    split at hw
    · exact Nat.le_of_ble_eq_true rfl
    · exact hw.elim
  · intro p e s m below meth c av h Q hxt G hw
    unfold wJ2_iterator at hw
    split at hw
    · exact tJ2_iterator_0 EN G ⟨rfl, rfl⟩ rfl hxt _ _ _ hw
    · exact hw.elim
/-! java/util/ArrayList$Itr.hasNext()Z (J9_hasNext) -/
theorem fa_20 : fieldAt [20] 0 "java/util/ArrayList$Itr" "cursor" "I" := fa_cons (r := (RJ9, TJ9, 4)) rfl (by decide) rfl rfl rfl (fa_nil)
theorem fa_21 : fieldAt [15] 2 "java/util/ArrayList" "size" "I" := fa_cons (r := (RJ2, TJ2, 3)) rfl (by decide) rfl rfl rfl (fa_nil)
def bJ9_hasNext_19 (E : Nat → Value) (Q : Rs → HS → Prop) : Ct :=
  o_ireturn .boolean Q
def bJ9_hasNext_18 (E : Nat → Value) (Q : Rs → HS → Prop) : Ct :=
  o_push (.int 0) <|
  (bJ9_hasNext_19 E Q)
def bJ9_hasNext_0 (E : Nat → Value) (Q : Rs → HS → Prop) : Ct :=
  o_aload 0 <|
  o_getf [20] 0 <|
  o_aload 0 <|
  o_getf [20] 3 <|
  o_getf [15] 2 <|
  o_icmpeq (bJ9_hasNext_18 E Q) <|
  o_push (.int 1) <|
  (bJ9_hasNext_19 E Q)
def wJ9_hasNext (E : Nat → Value) : Wp := fun av h Q => match av with
  | [a0] => bJ9_hasNext_0 E Q [a0] [] h
  | _ => False
set_option maxHeartbeats 4000000 in
theorem tJ9_hasNext_19 {x : CX} {E : Nat → Value} {Q : Rs → HS → Prop} (EN : EX x E) (G : Gd x cJ9_hasNext "java/util/ArrayList$Itr" yJ9_hasNext 1 (Option.some Jvm.ClassFile.FieldType.boolean) Q) (hF : x.1.2.2.2.frames = 2 ∧ x.1.2.2.2.locals = 64) (hC : x.2.2.2.2.2 = (fun _ => false)) (hxt : (∀ z ∈ x.2.2.1.2.1.exceptionTable.toList, False)) : Snd x 19 (bJ9_hasNext_19 E Q) := by
  unfold bJ9_hasNext_19
  exact s_ireturn G dJ9_hasNext_19
set_option maxHeartbeats 4000000 in
theorem tJ9_hasNext_18 {x : CX} {E : Nat → Value} {Q : Rs → HS → Prop} (EN : EX x E) (G : Gd x cJ9_hasNext "java/util/ArrayList$Itr" yJ9_hasNext 1 (Option.some Jvm.ClassFile.FieldType.boolean) Q) (hF : x.1.2.2.2.frames = 2 ∧ x.1.2.2.2.locals = 64) (hC : x.2.2.2.2.2 = (fun _ => false)) (hxt : (∀ z ∈ x.2.2.1.2.1.exceptionTable.toList, False)) : Snd x 18 (bJ9_hasNext_18 E Q) := by
  unfold bJ9_hasNext_18
  refine s_iconst (by decide) G.b dJ9_hasNext_18 ?_
  exact (tJ9_hasNext_19 EN G hF hC hxt)
set_option maxHeartbeats 4000000 in
theorem tJ9_hasNext_0 {x : CX} {E : Nat → Value} {Q : Rs → HS → Prop} (EN : EX x E) (G : Gd x cJ9_hasNext "java/util/ArrayList$Itr" yJ9_hasNext 1 (Option.some Jvm.ClassFile.FieldType.boolean) Q) (hF : x.1.2.2.2.frames = 2 ∧ x.1.2.2.2.locals = 64) (hC : x.2.2.2.2.2 = (fun _ => false)) (hxt : (∀ z ∈ x.2.2.1.2.1.exceptionTable.toList, False)) : Snd x 0 (bJ9_hasNext_0 E Q) := by
  unfold bJ9_hasNext_0
  refine s_aload_n rfl G.b dJ9_hasNext_0 ?_
  refine s_getf G.b G.ow G.kn (G.hts _ q364) (fun _ h => h) fa_20 dJ9_hasNext_1 ?_
  refine s_aload_n rfl G.b dJ9_hasNext_4 ?_
  refine s_getf G.b G.ow G.kn (G.hts _ q367) (fun _ h => h) fa_17 dJ9_hasNext_5 ?_
  refine s_getfN G.b G.ow G.kn (va_Nw.use rfl (va_Nw.warmF G.warm (EN.nw q160 rfl))) (fun _ h => h) fa_21 dJ9_hasNext_8 ?_
  refine s_icmpeq (tgt := 18) G.b dJ9_hasNext_11 (by decide) (tJ9_hasNext_18 EN G hF hC hxt) ?_
  refine s_iconst (by decide) G.b dJ9_hasNext_14 ?_
  exact s_goto (tgt := 19) G.b dJ9_hasNext_15 (by decide) (tJ9_hasNext_19 EN G hF hC hxt)
set_option maxHeartbeats 4000000 in
theorem mJ9_hasNext {l : Launch} {D : DE} {s0 : State} {E : Nat → Value} (EN : EV l D s0 E) : rMet l D s0 yJ9_hasNext (ws_ yJ9_hasNext cJ9_hasNext 1 (Option.some Jvm.ClassFile.FieldType.boolean)) 2 64 (wJ9_hasNext E) := by
  refine body_met (fun _ => false) EN.kn (fun w h => h) (by decide +kernel) rfl (fun av h Q hw => ?_) ?_
  · unfold wJ9_hasNext at hw
    split at hw
    · exact Nat.le_of_ble_eq_true rfl
    · exact hw.elim
  · intro p e s m below meth c av h Q hxt G hw
    unfold wJ9_hasNext at hw
    split at hw
    · exact tJ9_hasNext_0 EN G ⟨rfl, rfl⟩ rfl hxt _ _ _ hw
    · exact hw.elim
/-! java/util/ArrayList$Itr.checkForComodification()V (J9_checkForComodification) -/
def bJ9_checkForComodification_22 (E : Nat → Value) (Q : Rs → HS → Prop) : Ct :=
  o_return Q
def bJ9_checkForComodification_0 (E : Nat → Value) (Q : Rs → HS → Prop) : Ct :=
  o_aload 0 <|
  o_getf [20] 3 <|
  o_getf [14, 15] 0 <|
  o_aload 0 <|
  o_getf [20] 2 <|
  o_icmpeq (bJ9_checkForComodification_22 E Q) <|
  o_no
def wJ9_checkForComodification (E : Nat → Value) : Wp := fun av h Q => match av with
  | [a0] => bJ9_checkForComodification_0 E Q [a0] [] h
  | _ => False
set_option maxHeartbeats 4000000 in
theorem tJ9_checkForComodification_22 {x : CX} {E : Nat → Value} {Q : Rs → HS → Prop} (EN : EX x E) (G : Gd x cJ9_checkForComodification "java/util/ArrayList$Itr" yJ9_checkForComodification 1 (Option.none : Option Jvm.ClassFile.FieldType) Q) (hF : x.1.2.2.2.frames = 2 ∧ x.1.2.2.2.locals = 64) (hC : x.2.2.2.2.2 = (fun _ => false)) (hxt : (∀ z ∈ x.2.2.1.2.1.exceptionTable.toList, False)) : Snd x 22 (bJ9_checkForComodification_22 E Q) := by
  unfold bJ9_checkForComodification_22
  exact s_return G dJ9_checkForComodification_22
set_option maxHeartbeats 4000000 in
theorem tJ9_checkForComodification_0 {x : CX} {E : Nat → Value} {Q : Rs → HS → Prop} (EN : EX x E) (G : Gd x cJ9_checkForComodification "java/util/ArrayList$Itr" yJ9_checkForComodification 1 (Option.none : Option Jvm.ClassFile.FieldType) Q) (hF : x.1.2.2.2.frames = 2 ∧ x.1.2.2.2.locals = 64) (hC : x.2.2.2.2.2 = (fun _ => false)) (hxt : (∀ z ∈ x.2.2.1.2.1.exceptionTable.toList, False)) : Snd x 0 (bJ9_checkForComodification_0 E Q) := by
  unfold bJ9_checkForComodification_0
  refine s_aload_n rfl G.b dJ9_checkForComodification_0 ?_
  refine s_getf G.b G.ow G.kn (G.hts _ q367) (fun _ h => h) fa_17 dJ9_checkForComodification_1 ?_
  refine s_getf G.b G.ow G.kn (G.hts _ q163) (u_same (G.hts _ q164)) fa_0 dJ9_checkForComodification_4 ?_
  refine s_aload_n rfl G.b dJ9_checkForComodification_7 ?_
  refine s_getf G.b G.ow G.kn (G.hts _ q366) (fun _ h => h) fa_19 dJ9_checkForComodification_8 ?_
  refine s_icmpeq (tgt := 22) G.b dJ9_checkForComodification_11 (by decide) (tJ9_checkForComodification_22 EN G hF hC hxt) ?_
  exact s_no
set_option maxHeartbeats 4000000 in
theorem mJ9_checkForComodification {l : Launch} {D : DE} {s0 : State} {E : Nat → Value} (EN : EV l D s0 E) : rMet l D s0 yJ9_checkForComodification (ws_ yJ9_checkForComodification cJ9_checkForComodification 1 (Option.none : Option Jvm.ClassFile.FieldType)) 2 64 (wJ9_checkForComodification E) := by
  refine body_met (fun _ => false) EN.kn (fun w h => h) (by decide +kernel) rfl (fun av h Q hw => ?_) ?_
  · unfold wJ9_checkForComodification at hw
    split at hw
    · exact Nat.le_of_ble_eq_true rfl
    · exact hw.elim
  · intro p e s m below meth c av h Q hxt G hw
    unfold wJ9_checkForComodification at hw
    split at hw
    · exact tJ9_checkForComodification_0 EN G ⟨rfl, rfl⟩ rfl hxt _ _ _ hw
    · exact hw.elim
/-! java/util/ArrayList$Itr.next()Ljava/lang/Object; (J9_next) -/
theorem nmk_14 : nm_ok yJ9_checkForComodification 0 := ⟨by decide +kernel, by decide +kernel, by decide +kernel⟩
def bJ9_next_50 (E : Nat → Value) (Q : Rs → HS → Prop) : Ct :=
  o_aload 0 <|
  o_iload 1 <|
  o_push (.int 1) <|
  o_iadd <|
  o_putf [20] 0 .int <|
  o_aload 2 <|
  o_aload 0 <|
  o_iload 1 <|
  o_dup_x1 <|
  o_putf [20] 1 .int <|
  o_ald [103, 104, 105, 106, 107] <|
  o_areturn Q
def bJ9_next_28 (E : Nat → Value) (Q : Rs → HS → Prop) : Ct :=
  o_aload 0 <|
  o_getf [20] 3 <|
  o_getf [15] 1 <|
  o_astore 2 <|
  o_iload 1 <|
  o_aload 2 <|
  o_alen <|
  o_icmplt (bJ9_next_50 E Q) <|
  o_no
def bJ9_next_0 (E : Nat → Value) (Q : Rs → HS → Prop) : Ct :=
  o_aload 0 <|
  o_callV [20] 1 (wJ9_checkForComodification E) (x_out Q) <|
  o_aload 0 <|
  o_getf [20] 0 <|
  o_istore 1 <|
  o_iload 1 <|
  o_aload 0 <|
  o_getf [20] 3 <|
  o_getf [15] 2 <|
  o_icmplt (bJ9_next_28 E Q) <|
  o_no
def wJ9_next (E : Nat → Value) : Wp := fun av h Q => match av with
  | [a0] => bJ9_next_0 E Q [a0, jk, jk] [] h
  | _ => False
set_option maxHeartbeats 4000000 in
theorem tJ9_next_50 {x : CX} {E : Nat → Value} {Q : Rs → HS → Prop} (EN : EX x E) (G : Gd x cJ9_next "java/util/ArrayList$Itr" yJ9_next 3 (Option.some (Jvm.ClassFile.FieldType.object "java/lang/Object")) Q) (hF : x.1.2.2.2.frames = 3 ∧ x.1.2.2.2.locals = 84) (hC : x.2.2.2.2.2 = (fun _ => false)) (hxt : (∀ z ∈ x.2.2.1.2.1.exceptionTable.toList, False)) : Snd x 50 (bJ9_next_50 E Q) := by
  unfold bJ9_next_50
  refine s_aload_n rfl G.b dJ9_next_50 ?_
  refine s_iload_n rfl G.b dJ9_next_51 ?_
  refine s_iconst (by decide) G.b dJ9_next_52 ?_
  refine s_iadd G.b dJ9_next_53 ?_
  refine s_putf G.b G.ow G.kn (G.hts _ q364) (fun _ h => h) fa_20 (la_cons (r := (RJ9, TJ9, 4)) G.hts (by decide) rfl q368 (la_nil)) (by decide +kernel) dJ9_next_54 ?_
  refine s_aload_n rfl G.b dJ9_next_57 ?_
  refine s_aload_n rfl G.b dJ9_next_58 ?_
  refine s_iload_n rfl G.b dJ9_next_59 ?_
  refine s_dup_x1 G.b dJ9_next_60 ?_
  refine s_putf G.b G.ow G.kn (G.hts _ q365) (fun _ h => h) fa_18 (la_cons (r := (RJ9, TJ9, 4)) G.hts (by decide) rfl q370 (la_nil)) (by decide +kernel) dJ9_next_61 ?_
  refine s_aald G.b G.kn dJ9_next_64 ?_
  exact s_areturn (Or.inl ⟨_, rfl⟩) G dJ9_next_65
set_option maxHeartbeats 4000000 in
theorem tJ9_next_28 {x : CX} {E : Nat → Value} {Q : Rs → HS → Prop} (EN : EX x E) (G : Gd x cJ9_next "java/util/ArrayList$Itr" yJ9_next 3 (Option.some (Jvm.ClassFile.FieldType.object "java/lang/Object")) Q) (hF : x.1.2.2.2.frames = 3 ∧ x.1.2.2.2.locals = 84) (hC : x.2.2.2.2.2 = (fun _ => false)) (hxt : (∀ z ∈ x.2.2.1.2.1.exceptionTable.toList, False)) : Snd x 28 (bJ9_next_28 E Q) := by
  unfold bJ9_next_28
  refine s_aload_n rfl G.b dJ9_next_28 ?_
  refine s_getf G.b G.ow G.kn (G.hts _ q367) (fun _ h => h) fa_17 dJ9_next_29 ?_
  refine s_getf G.b G.ow G.kn (G.hts _ q159) (fun _ h => h) fa_1 dJ9_next_32 ?_
  refine s_astore_n rfl G.b (by rw [G.nl]; decide) (fun _ _ => by rw [hC]) dJ9_next_35 ?_
  refine s_iload_n rfl G.b dJ9_next_36 ?_
  refine s_aload_n rfl G.b dJ9_next_37 ?_
  refine s_alen G.b G.kn dJ9_next_38 ?_
  refine s_icmplt (tgt := 50) G.b dJ9_next_39 (by decide) (tJ9_next_50 EN G hF hC hxt) ?_
  exact s_no
set_option maxHeartbeats 4000000 in
theorem tJ9_next_0 {x : CX} {E : Nat → Value} {Q : Rs → HS → Prop} (EN : EX x E) (G : Gd x cJ9_next "java/util/ArrayList$Itr" yJ9_next 3 (Option.some (Jvm.ClassFile.FieldType.object "java/lang/Object")) Q) (hF : x.1.2.2.2.frames = 3 ∧ x.1.2.2.2.locals = 84) (hC : x.2.2.2.2.2 = (fun _ => false)) (hxt : (∀ z ∈ x.2.2.1.2.1.exceptionTable.toList, False)) : Snd x 0 (bJ9_next_0 E Q) := by
  unfold bJ9_next_0
  refine s_aload_n rfl G.b dJ9_next_0 ?_
  refine s_callV G (mJ9_checkForComodification EN) q396 q397 (sel_cons (r := (RJ9, TJ9, 4)) (by decide) rfl q398 (sel_nil)) q91 q399 nmk_14 (rm_of hF (Nat.le_of_ble_eq_true rfl) (Nat.le_of_ble_eq_true rfl)) dJ9_next_1 ?_ (sx_out G (fun z hz => (hxt z hz).elim))
  refine s_aload_n rfl G.b dJ9_next_4 ?_
  refine s_getf G.b G.ow G.kn (G.hts _ q364) (fun _ h => h) fa_20 dJ9_next_5 ?_
  refine s_istore_n rfl G.b (by rw [G.nl]; decide) (fun _ _ => by rw [hC]) dJ9_next_8 ?_
  refine s_iload_n rfl G.b dJ9_next_9 ?_
  refine s_aload_n rfl G.b dJ9_next_10 ?_
  refine s_getf G.b G.ow G.kn (G.hts _ q367) (fun _ h => h) fa_17 dJ9_next_11 ?_
  refine s_getfN G.b G.ow G.kn (va_Nw.use rfl (va_Nw.warmF G.warm (EN.nw q160 rfl))) (fun _ h => h) fa_21 dJ9_next_14 ?_
  refine s_icmplt (tgt := 28) G.b dJ9_next_17 (by decide) (tJ9_next_28 EN G hF hC hxt) ?_
  exact s_no
set_option maxHeartbeats 4000000 in
theorem mJ9_next {l : Launch} {D : DE} {s0 : State} {E : Nat → Value} (EN : EV l D s0 E) : rMet l D s0 yJ9_next (ws_ yJ9_next cJ9_next 3 (Option.some (Jvm.ClassFile.FieldType.object "java/lang/Object"))) 3 84 (wJ9_next E) := by
  refine body_met (fun _ => false) EN.kn (fun w h => h) (by decide +kernel) rfl (fun av h Q hw => ?_) ?_
  · unfold wJ9_next at hw
    split at hw
    · exact Nat.le_of_ble_eq_true rfl
    · exact hw.elim
  · intro p e s m below meth c av h Q hxt G hw
    unfold wJ9_next at hw
    split at hw
    · exact tJ9_next_0 EN G ⟨rfl, rfl⟩ rfl hxt _ _ _ hw
    · exact hw.elim
/-! ChantRules$Rule.weights()I (X3_weights) -/
theorem nmk_15 : nm_ok ⟨"java/util/Iterator", "hasNext", "()Z"⟩ 0 := ⟨by decide +kernel, by decide +kernel, by decide +kernel⟩
theorem nmk_16 : nm_ok ⟨"java/util/Iterator", "next", "()Ljava/lang/Object;"⟩ 0 := ⟨by decide +kernel, by decide +kernel, by decide +kernel⟩
theorem ct_1 : ∀ c ∈ [10, 11], (c, "ChantRules$Arc") ∈ ctab := by decide +kernel
theorem nmk_17 : nm_ok ⟨"ChantRules$Arc", "weight", "()I"⟩ 0 := ⟨by decide +kernel, by decide +kernel, by decide +kernel⟩
theorem nmk_18 : nm_ok yJ2_iterator 0 := ⟨by decide +kernel, by decide +kernel, by decide +kernel⟩
def bX3_weights_41 (E : Nat → Value) (Q : Rs → HS → Prop) (X10 : Ct) : Ct :=
  o_iload 1 <|
  o_ireturn .int Q
def bX3_weights_36 (E : Nat → Value) (Q : Rs → HS → Prop) (X10 : Ct) : Ct :=
  o_iadd <|
  o_istore 1 <|
  X10
def bX3_weights_10 (E : Nat → Value) (Q : Rs → HS → Prop) (X10 : Ct) : Ct :=
  o_aload 2 <|
  o_callV [20] 1 (wJ9_hasNext E) (x_out Q) <|
  o_ifeq (bX3_weights_41 E Q X10) <|
  o_aload 2 <|
  o_callV [20] 1 (wJ9_next E) (x_out Q) <|
  o_cast [10, 11] <|
  o_astore 3 <|
  o_iload 1 <|
  o_aload 3 <|
  o_vsel 1 [10] (o_callV [10] 1 (wX7_weight E) (x_out Q) (bX3_weights_36 E Q X10)) (o_callV [11] 1 (wX8_weight E) (x_out Q) (bX3_weights_36 E Q X10))
def bX3_weights_0 (E : Nat → Value) (Q : Rs → HS → Prop) (X10 : Ct) : Ct :=
  o_push (.int 0) <|
  o_istore 1 <|
  o_aload 0 <|
  o_getf [2] 0 <|
  o_callV [15] 1 (wJ2_iterator E) (x_out Q) <|
  o_astore 2 <|
  X10
def wX3_weights (E : Nat → Value) : Wp := fun av h Q => match av with
  | [a0] => ∀ X10 : Ct, (∀ ls st h, bX3_weights_10 E Q X10 ls st h → X10 ls st h) → bX3_weights_0 E Q X10 [a0, jk, jk, jk] [] h
  | _ => False
set_option maxHeartbeats 4000000 in
theorem tX3_weights_41 {x : CX} {E : Nat → Value} {Q : Rs → HS → Prop} {X10 : Ct} (EN : EX x E) (G : Gd x cX3_weights "ChantRules$Rule" yX3_weights 4 (Option.some Jvm.ClassFile.FieldType.int) Q) (hF : x.1.2.2.2.frames = 4 ∧ x.1.2.2.2.locals = 106) (hC : x.2.2.2.2.2 = (fun _ => false)) (hxt : (∀ z ∈ x.2.2.1.2.1.exceptionTable.toList, False)) (h10 : Snd x 10 X10) : Snd x 41 (bX3_weights_41 E Q X10) := by
  unfold bX3_weights_41
  refine s_iload_n rfl G.b dX3_weights_41 ?_
  exact s_ireturn G dX3_weights_42
set_option maxHeartbeats 4000000 in
theorem tX3_weights_36 {x : CX} {E : Nat → Value} {Q : Rs → HS → Prop} {X10 : Ct} (EN : EX x E) (G : Gd x cX3_weights "ChantRules$Rule" yX3_weights 4 (Option.some Jvm.ClassFile.FieldType.int) Q) (hF : x.1.2.2.2.frames = 4 ∧ x.1.2.2.2.locals = 106) (hC : x.2.2.2.2.2 = (fun _ => false)) (hxt : (∀ z ∈ x.2.2.1.2.1.exceptionTable.toList, False)) (h10 : Snd x 10 X10) : Snd x 36 (bX3_weights_36 E Q X10) := by
  unfold bX3_weights_36
  refine s_iadd G.b dX3_weights_36 ?_
  refine s_istore_n rfl G.b (by rw [G.nl]; decide) (fun _ _ => by rw [hC]) dX3_weights_37 ?_
  exact s_goto (tgt := 10) G.b dX3_weights_38 (by decide) h10
set_option maxHeartbeats 4000000 in
theorem tX3_weights_10 {x : CX} {E : Nat → Value} {Q : Rs → HS → Prop} {X10 : Ct} (EN : EX x E) (G : Gd x cX3_weights "ChantRules$Rule" yX3_weights 4 (Option.some Jvm.ClassFile.FieldType.int) Q) (hF : x.1.2.2.2.frames = 4 ∧ x.1.2.2.2.locals = 106) (hC : x.2.2.2.2.2 = (fun _ => false)) (hxt : (∀ z ∈ x.2.2.1.2.1.exceptionTable.toList, False)) (h10 : Snd x 10 X10) : Snd x 10 (bX3_weights_10 E Q X10) := by
  unfold bX3_weights_10
  refine s_aload_n rfl G.b dX3_weights_10 ?_
  refine s_callF (r0 := (RJ9, TJ9, 4)) (w := ⟨"java/util/Iterator", "hasNext", "()Z"⟩) (by decide) rfl G (mJ9_hasNext EN) q378 (va_Fw.moved (by decide +kernel) G.warm.alike ⟨(EN.nw q380 rfl), (EN.nw q379 rfl), (EN.nw q385 rfl), (EN.nw q383 rfl), (EN.nw q381 rfl)⟩) q382 q384 q91 q386 nmk_15 (rm_of hF (Nat.le_of_ble_eq_true rfl) (Nat.le_of_ble_eq_true rfl)) dX3_weights_11 ?_ (sx_out G (fun z hz => (hxt z hz).elim))
  refine s_ifeq (tgt := 41) G.b dX3_weights_16 (by decide) (tX3_weights_41 EN G hF hC hxt h10) ?_
  refine s_aload_n rfl G.b dX3_weights_19 ?_
  refine s_callF (r0 := (RJ9, TJ9, 4)) (w := ⟨"java/util/Iterator", "next", "()Ljava/lang/Object;"⟩) (by decide) rfl G (mJ9_next EN) q388 (va_Fw.moved (by decide +kernel) G.warm.alike ⟨(EN.nw q390 rfl), (EN.nw q389 rfl), (EN.nw q394 rfl), (EN.nw q392 rfl), (EN.nw q381 rfl)⟩) q391 q393 q91 q395 nmk_16 (rm_of hF (Nat.le_of_ble_eq_true rfl) (Nat.le_of_ble_eq_true rfl)) dX3_weights_20 ?_ (sx_out G (fun z hz => (hxt z hz).elim))
  refine s_cast G.b G.ow G.kn G.hts q400 ct_1 dX3_weights_25 ?_
  refine s_astore_n rfl G.b (by rw [G.nl]; decide) (fun _ _ => by rw [hC]) dX3_weights_28 ?_
  refine s_iload_n rfl G.b dX3_weights_29 ?_
  refine s_aload_n rfl G.b dX3_weights_30 ?_
  exact (s_vsel (s_callF (r0 := (RX7, TX7, 4)) (w := ⟨"ChantRules$Arc", "weight", "()I"⟩) (by decide) rfl G (mX7_weight EN) q768 (va_Fw.moved (by decide +kernel) G.warm.alike ⟨(EN.nw q770 rfl), (EN.nw q769 rfl), (EN.nw q774 rfl), (EN.nw q772 rfl), (EN.nw q287 rfl)⟩) q771 q773 q99 q775 nmk_17 (rm_of hF (Nat.le_of_ble_eq_true rfl) (Nat.le_of_ble_eq_true rfl)) dX3_weights_31 (tX3_weights_36 EN G hF hC hxt h10) (sx_out G (fun z hz => (hxt z hz).elim)) ) (s_callF (r0 := (RX8, TX8, 5)) (w := ⟨"ChantRules$Arc", "weight", "()I"⟩) (by decide) rfl G (mX8_weight EN) q768 (va_Fw.moved (by decide +kernel) G.warm.alike ⟨(EN.nw q770 rfl), (EN.nw q769 rfl), (EN.nw q779 rfl), (EN.nw q777 rfl), (EN.nw q293 rfl)⟩) q776 q778 q100 q780 nmk_17 (rm_of hF (Nat.le_of_ble_eq_true rfl) (Nat.le_of_ble_eq_true rfl)) dX3_weights_31 (tX3_weights_36 EN G hF hC hxt h10) (sx_out G (fun z hz => (hxt z hz).elim)) ))
set_option maxHeartbeats 4000000 in
theorem tX3_weights_0 {x : CX} {E : Nat → Value} {Q : Rs → HS → Prop} {X10 : Ct} (EN : EX x E) (G : Gd x cX3_weights "ChantRules$Rule" yX3_weights 4 (Option.some Jvm.ClassFile.FieldType.int) Q) (hF : x.1.2.2.2.frames = 4 ∧ x.1.2.2.2.locals = 106) (hC : x.2.2.2.2.2 = (fun _ => false)) (hxt : (∀ z ∈ x.2.2.1.2.1.exceptionTable.toList, False)) (h10 : Snd x 10 X10) : Snd x 0 (bX3_weights_0 E Q X10) := by
  unfold bX3_weights_0
  refine s_iconst (by decide) G.b dX3_weights_0 ?_
  refine s_istore_n rfl G.b (by rw [G.nl]; decide) (fun _ _ => by rw [hC]) dX3_weights_1 ?_
  refine s_aload_n rfl G.b dX3_weights_2 ?_
  refine s_getf G.b G.ow G.kn (G.hts _ q175) (fun _ h => h) fa_3 dX3_weights_3 ?_
  refine s_callV G (mJ2_iterator EN) q354 q355 (sel_cons (r := (RJ2, TJ2, 3)) (by decide) rfl q356 (sel_nil)) q82 q357 nmk_18 (rm_of hF (Nat.le_of_ble_eq_true rfl) (Nat.le_of_ble_eq_true rfl)) dX3_weights_6 ?_ (sx_out G (fun z hz => (hxt z hz).elim))
  refine s_astore_n rfl G.b (by rw [G.nl]; decide) (fun _ _ => by rw [hC]) dX3_weights_9 ?_
  exact h10
set_option maxHeartbeats 4000000 in
theorem mX3_weights {l : Launch} {D : DE} {s0 : State} {E : Nat → Value} (EN : EV l D s0 E) : rMet l D s0 yX3_weights (ws_ yX3_weights cX3_weights 4 (Option.some Jvm.ClassFile.FieldType.int)) 4 106 (wX3_weights E) := by
  refine body_met (fun _ => false) EN.kn (fun w h => h) (by decide +kernel) rfl (fun av h Q hw => ?_) ?_
  · unfold wX3_weights at hw
    split at hw
    · exact Nat.le_of_ble_eq_true rfl
    · exact hw.elim
  · intro p e s m below meth c av h Q hxt G hw
    unfold wX3_weights at hw
    split at hw
    · exact tX3_weights_0 EN G ⟨rfl, rfl⟩ rfl hxt (fun _ _ _ h => h) _ _ _ (hw (AW _ 10) (tX3_weights_10 EN G ⟨rfl, rfl⟩ rfl hxt (fun _ _ _ h => h)))
    · exact hw.elim
/-! ChantRules$Choir.weights()I (X1_weights) -/
theorem nmk_19 : nm_ok yX3_weights 0 := ⟨by decide +kernel, by decide +kernel, by decide +kernel⟩
def bX1_weights_0 (E : Nat → Value) (Q : Rs → HS → Prop) : Ct :=
  o_aload 0 <|
  o_getf [1] 0 <|
  o_push (.int 0) <|
  o_ald [103, 104, 105, 106, 107] <|
  o_callV [2] 1 (wX3_weights E) (x_out Q) <|
  o_aload 0 <|
  o_getf [1] 0 <|
  o_push (.int 1) <|
  o_ald [103, 104, 105, 106, 107] <|
  o_callV [2] 1 (wX3_weights E) (x_out Q) <|
  o_iadd <|
  o_ireturn .int Q
def wX1_weights (E : Nat → Value) : Wp := fun av h Q => match av with
  | [a0] => bX1_weights_0 E Q [a0] [] h
  | _ => False
set_option maxHeartbeats 4000000 in
theorem tX1_weights_0 {x : CX} {E : Nat → Value} {Q : Rs → HS → Prop} (EN : EX x E) (G : Gd x cX1_weights "ChantRules$Choir" yX1_weights 1 (Option.some Jvm.ClassFile.FieldType.int) Q) (hF : x.1.2.2.2.frames = 5 ∧ x.1.2.2.2.locals = 129) (hC : x.2.2.2.2.2 = (fun _ => false)) (hxt : (∀ z ∈ x.2.2.1.2.1.exceptionTable.toList, False)) : Snd x 0 (bX1_weights_0 E Q) := by
  unfold bX1_weights_0
  refine s_aload_n rfl G.b dX1_weights_0 ?_
  refine s_getf G.b G.ow G.kn (G.hts _ q192) (fun _ h => h) fa_5 dX1_weights_1 ?_
  refine s_iconst (by decide) G.b dX1_weights_4 ?_
  refine s_aald G.b G.kn dX1_weights_5 ?_
  refine s_callV G (mX3_weights EN) q1815 q1816 (sel_cons (r := (RX3, TX3, 3)) (by decide) rfl q1817 (sel_nil)) q79 q1818 nmk_19 (rm_of hF (Nat.le_of_ble_eq_true rfl) (Nat.le_of_ble_eq_true rfl)) dX1_weights_6 ?_ (sx_out G (fun z hz => (hxt z hz).elim))
  refine s_aload_n rfl G.b dX1_weights_9 ?_
  refine s_getf G.b G.ow G.kn (G.hts _ q192) (fun _ h => h) fa_5 dX1_weights_10 ?_
  refine s_iconst (by decide) G.b dX1_weights_13 ?_
  refine s_aald G.b G.kn dX1_weights_14 ?_
  refine s_callV G (mX3_weights EN) q1815 q1816 (sel_cons (r := (RX3, TX3, 3)) (by decide) rfl q1817 (sel_nil)) q79 q1818 nmk_19 (rm_of hF (Nat.le_of_ble_eq_true rfl) (Nat.le_of_ble_eq_true rfl)) dX1_weights_15 ?_ (sx_out G (fun z hz => (hxt z hz).elim))
  refine s_iadd G.b dX1_weights_18 ?_
  exact s_ireturn G dX1_weights_19
set_option maxHeartbeats 4000000 in
theorem mX1_weights {l : Launch} {D : DE} {s0 : State} {E : Nat → Value} (EN : EV l D s0 E) : rMet l D s0 yX1_weights (ws_ yX1_weights cX1_weights 1 (Option.some Jvm.ClassFile.FieldType.int)) 5 129 (wX1_weights E) := by
  refine body_met (fun _ => false) EN.kn (fun w h => h) (by decide +kernel) rfl (fun av h Q hw => ?_) ?_
  · unfold wX1_weights at hw
    split at hw
    · exact Nat.le_of_ble_eq_true rfl
    · exact hw.elim
  · intro p e s m below meth c av h Q hxt G hw
    unfold wX1_weights at hw
    split at hw
    · exact tX1_weights_0 EN G ⟨rfl, rfl⟩ rfl hxt _ _ _ hw
    · exact hw.elim
/-! ChantRules$Rule.endMany()I (X3_endMany) -/
def bX3_endMany_36 (E : Nat → Value) (Q : Rs → HS → Prop) (X4 : Ct) : Ct :=
  o_iload 1 <|
  o_ireturn .int Q
def bX3_endMany_28 (E : Nat → Value) (Q : Rs → HS → Prop) (X4 : Ct) : Ct :=
  o_iadd <|
  o_istore 1 <|
  o_iinc 2 1 <|
  X4
def bX3_endMany_27 (E : Nat → Value) (Q : Rs → HS → Prop) (X4 : Ct) : Ct :=
  o_push (.int 1) <|
  (bX3_endMany_28 E Q X4)
def bX3_endMany_4 (E : Nat → Value) (Q : Rs → HS → Prop) (X4 : Ct) : Ct :=
  o_iload 2 <|
  o_aload 0 <|
  o_getf [2] 2 <|
  o_icmpge (bX3_endMany_36 E Q X4) <|
  o_iload 1 <|
  o_aload 0 <|
  o_getf [2] 1 <|
  o_iload 2 <|
  o_ald [100] <|
  o_push (.int (-1)) <|
  o_icmpne (bX3_endMany_27 E Q X4) <|
  o_push (.int 0) <|
  (bX3_endMany_28 E Q X4)
def bX3_endMany_0 (E : Nat → Value) (Q : Rs → HS → Prop) (X4 : Ct) : Ct :=
  o_push (.int 0) <|
  o_istore 1 <|
  o_push (.int 0) <|
  o_istore 2 <|
  X4
def wX3_endMany (E : Nat → Value) : Wp := fun av h Q => match av with
  | [a0] => ∀ X4 : Ct, (∀ ls st h, bX3_endMany_4 E Q X4 ls st h → X4 ls st h) → bX3_endMany_0 E Q X4 [a0, jk, jk] [] h
  | _ => False
set_option maxHeartbeats 4000000 in
theorem tX3_endMany_36 {x : CX} {E : Nat → Value} {Q : Rs → HS → Prop} {X4 : Ct} (EN : EX x E) (G : Gd x cX3_endMany "ChantRules$Rule" yX3_endMany 3 (Option.some Jvm.ClassFile.FieldType.int) Q) (hF : x.1.2.2.2.frames = 2 ∧ x.1.2.2.2.locals = 64) (hC : x.2.2.2.2.2 = (fun _ => false)) (hxt : (∀ z ∈ x.2.2.1.2.1.exceptionTable.toList, False)) (h4 : Snd x 4 X4) : Snd x 36 (bX3_endMany_36 E Q X4) := by
  unfold bX3_endMany_36
  refine s_iload_n rfl G.b dX3_endMany_36 ?_
  exact s_ireturn G dX3_endMany_37
set_option maxHeartbeats 4000000 in
theorem tX3_endMany_28 {x : CX} {E : Nat → Value} {Q : Rs → HS → Prop} {X4 : Ct} (EN : EX x E) (G : Gd x cX3_endMany "ChantRules$Rule" yX3_endMany 3 (Option.some Jvm.ClassFile.FieldType.int) Q) (hF : x.1.2.2.2.frames = 2 ∧ x.1.2.2.2.locals = 64) (hC : x.2.2.2.2.2 = (fun _ => false)) (hxt : (∀ z ∈ x.2.2.1.2.1.exceptionTable.toList, False)) (h4 : Snd x 4 X4) : Snd x 28 (bX3_endMany_28 E Q X4) := by
  unfold bX3_endMany_28
  refine s_iadd G.b dX3_endMany_28 ?_
  refine s_istore_n rfl G.b (by rw [G.nl]; decide) (fun _ _ => by rw [hC]) dX3_endMany_29 ?_
  refine s_iinc (by decide) G.b (by rw [G.nl]; decide) (fun _ _ => by rw [hC]) dX3_endMany_30 ?_
  exact s_goto (tgt := 4) G.b dX3_endMany_33 (by decide) h4
set_option maxHeartbeats 4000000 in
theorem tX3_endMany_27 {x : CX} {E : Nat → Value} {Q : Rs → HS → Prop} {X4 : Ct} (EN : EX x E) (G : Gd x cX3_endMany "ChantRules$Rule" yX3_endMany 3 (Option.some Jvm.ClassFile.FieldType.int) Q) (hF : x.1.2.2.2.frames = 2 ∧ x.1.2.2.2.locals = 64) (hC : x.2.2.2.2.2 = (fun _ => false)) (hxt : (∀ z ∈ x.2.2.1.2.1.exceptionTable.toList, False)) (h4 : Snd x 4 X4) : Snd x 27 (bX3_endMany_27 E Q X4) := by
  unfold bX3_endMany_27
  refine s_iconst (by decide) G.b dX3_endMany_27 ?_
  exact (tX3_endMany_28 EN G hF hC hxt h4)
set_option maxHeartbeats 4000000 in
theorem tX3_endMany_4 {x : CX} {E : Nat → Value} {Q : Rs → HS → Prop} {X4 : Ct} (EN : EX x E) (G : Gd x cX3_endMany "ChantRules$Rule" yX3_endMany 3 (Option.some Jvm.ClassFile.FieldType.int) Q) (hF : x.1.2.2.2.frames = 2 ∧ x.1.2.2.2.locals = 64) (hC : x.2.2.2.2.2 = (fun _ => false)) (hxt : (∀ z ∈ x.2.2.1.2.1.exceptionTable.toList, False)) (h4 : Snd x 4 X4) : Snd x 4 (bX3_endMany_4 E Q X4) := by
  unfold bX3_endMany_4
  refine s_iload_n rfl G.b dX3_endMany_4 ?_
  refine s_aload_n rfl G.b dX3_endMany_5 ?_
  refine s_getf G.b G.ow G.kn (G.hts _ q180) (fun _ h => h) fa_4 dX3_endMany_6 ?_
  refine s_icmpge (tgt := 36) G.b dX3_endMany_9 (by decide) (tX3_endMany_36 EN G hF hC hxt h4) ?_
  refine s_iload_n rfl G.b dX3_endMany_12 ?_
  refine s_aload_n rfl G.b dX3_endMany_13 ?_
  refine s_getf G.b G.ow G.kn (G.hts _ q179) (fun _ h => h) fa_2 dX3_endMany_14 ?_
  refine s_iload_n rfl G.b dX3_endMany_17 ?_
  refine s_iald G.b G.kn dX3_endMany_18 ?_
  refine s_iconst (by decide) G.b dX3_endMany_19 ?_
  refine s_icmpne (tgt := 27) G.b dX3_endMany_20 (by decide) (tX3_endMany_27 EN G hF hC hxt h4) ?_
  refine s_iconst (by decide) G.b dX3_endMany_23 ?_
  exact s_goto (tgt := 28) G.b dX3_endMany_24 (by decide) (tX3_endMany_28 EN G hF hC hxt h4)
set_option maxHeartbeats 4000000 in
theorem tX3_endMany_0 {x : CX} {E : Nat → Value} {Q : Rs → HS → Prop} {X4 : Ct} (EN : EX x E) (G : Gd x cX3_endMany "ChantRules$Rule" yX3_endMany 3 (Option.some Jvm.ClassFile.FieldType.int) Q) (hF : x.1.2.2.2.frames = 2 ∧ x.1.2.2.2.locals = 64) (hC : x.2.2.2.2.2 = (fun _ => false)) (hxt : (∀ z ∈ x.2.2.1.2.1.exceptionTable.toList, False)) (h4 : Snd x 4 X4) : Snd x 0 (bX3_endMany_0 E Q X4) := by
  unfold bX3_endMany_0
  refine s_iconst (by decide) G.b dX3_endMany_0 ?_
  refine s_istore_n rfl G.b (by rw [G.nl]; decide) (fun _ _ => by rw [hC]) dX3_endMany_1 ?_
  refine s_iconst (by decide) G.b dX3_endMany_2 ?_
  refine s_istore_n rfl G.b (by rw [G.nl]; decide) (fun _ _ => by rw [hC]) dX3_endMany_3 ?_
  exact h4
set_option maxHeartbeats 4000000 in
theorem mX3_endMany {l : Launch} {D : DE} {s0 : State} {E : Nat → Value} (EN : EV l D s0 E) : rMet l D s0 yX3_endMany (ws_ yX3_endMany cX3_endMany 3 (Option.some Jvm.ClassFile.FieldType.int)) 2 64 (wX3_endMany E) := by
  refine body_met (fun _ => false) EN.kn (fun w h => h) (by decide +kernel) rfl (fun av h Q hw => ?_) ?_
  · unfold wX3_endMany at hw
    split at hw
    · exact Nat.le_of_ble_eq_true rfl
    · exact hw.elim
  · intro p e s m below meth c av h Q hxt G hw
    unfold wX3_endMany at hw
    split at hw
    · exact tX3_endMany_0 EN G ⟨rfl, rfl⟩ rfl hxt (fun _ _ _ h => h) _ _ _ (hw (AW _ 4) (tX3_endMany_4 EN G ⟨rfl, rfl⟩ rfl hxt (fun _ _ _ h => h)))
    · exact hw.elim
/-! ChantRules$Breathed.hears()I (X7_hears) -/
def bX7_hears_0 (E : Nat → Value) (Q : Rs → HS → Prop) : Ct :=
  o_push (.int 4) <|
  o_ireturn .int Q
def wX7_hears (E : Nat → Value) : Wp := fun av h Q => match av with
  | [a0] => bX7_hears_0 E Q [a0] [] h
  | _ => False
set_option maxHeartbeats 4000000 in
theorem tX7_hears_0 {x : CX} {E : Nat → Value} {Q : Rs → HS → Prop} (EN : EX x E) (G : Gd x cX7_hears "ChantRules$Breathed" yX7_hears 1 (Option.some Jvm.ClassFile.FieldType.int) Q) (hF : x.1.2.2.2.frames = 2 ∧ x.1.2.2.2.locals = 64) (hC : x.2.2.2.2.2 = (fun _ => false)) (hxt : (∀ z ∈ x.2.2.1.2.1.exceptionTable.toList, False)) : Snd x 0 (bX7_hears_0 E Q) := by
  unfold bX7_hears_0
  refine s_iconst (by decide) G.b dX7_hears_0 ?_
  exact s_ireturn G dX7_hears_1
set_option maxHeartbeats 4000000 in
theorem mX7_hears {l : Launch} {D : DE} {s0 : State} {E : Nat → Value} (EN : EV l D s0 E) : rMet l D s0 yX7_hears (ws_ yX7_hears cX7_hears 1 (Option.some Jvm.ClassFile.FieldType.int)) 2 64 (wX7_hears E) := by
  refine body_met (fun _ => false) EN.kn (fun w h => h) (by decide +kernel) rfl (fun av h Q hw => ?_) ?_
  · unfold wX7_hears at hw
    split at hw
    · exact Nat.le_of_ble_eq_true rfl
    · exact hw.elim
  · intro p e s m below meth c av h Q hxt G hw
    unfold wX7_hears at hw
    split at hw
    · exact tX7_hears_0 EN G ⟨rfl, rfl⟩ rfl hxt _ _ _ hw
    · exact hw.elim
/-! ChantRules$Heard.hears()I (X8_hears) -/
theorem fa_22 : fieldAt [11] 2 "ChantRules$Heard" "letter" "I" := fa_cons (r := (RX8, TX8, 5)) rfl (by decide) rfl rfl rfl (fa_nil)
def bX8_hears_0 (E : Nat → Value) (Q : Rs → HS → Prop) : Ct :=
  o_aload 0 <|
  o_getf [11] 2 <|
  o_ireturn .int Q
def wX8_hears (E : Nat → Value) : Wp := fun av h Q => match av with
  | [a0] => bX8_hears_0 E Q [a0] [] h
  | _ => False
set_option maxHeartbeats 4000000 in
theorem tX8_hears_0 {x : CX} {E : Nat → Value} {Q : Rs → HS → Prop} (EN : EX x E) (G : Gd x cX8_hears "ChantRules$Heard" yX8_hears 1 (Option.some Jvm.ClassFile.FieldType.int) Q) (hF : x.1.2.2.2.frames = 2 ∧ x.1.2.2.2.locals = 64) (hC : x.2.2.2.2.2 = (fun _ => false)) (hxt : (∀ z ∈ x.2.2.1.2.1.exceptionTable.toList, False)) : Snd x 0 (bX8_hears_0 E Q) := by
  unfold bX8_hears_0
  refine s_aload_n rfl G.b dX8_hears_0 ?_
  refine s_getf G.b G.ow G.kn (G.hts _ q664) (fun _ h => h) fa_22 dX8_hears_1 ?_
  exact s_ireturn G dX8_hears_4
set_option maxHeartbeats 4000000 in
theorem mX8_hears {l : Launch} {D : DE} {s0 : State} {E : Nat → Value} (EN : EV l D s0 E) : rMet l D s0 yX8_hears (ws_ yX8_hears cX8_hears 1 (Option.some Jvm.ClassFile.FieldType.int)) 2 64 (wX8_hears E) := by
  refine body_met (fun _ => false) EN.kn (fun w h => h) (by decide +kernel) rfl (fun av h Q hw => ?_) ?_
  · unfold wX8_hears at hw
    split at hw
    · exact Nat.le_of_ble_eq_true rfl
    · exact hw.elim
  · intro p e s m below meth c av h Q hxt G hw
    unfold wX8_hears at hw
    split at hw
    · exact tX8_hears_0 EN G ⟨rfl, rfl⟩ rfl hxt _ _ _ hw
    · exact hw.elim
/-! ChantRules.lambda$new$0(ILChantRules$Arc;)Z (X0_lambda_new_0) -/
theorem nmk_20 : nm_ok ⟨"ChantRules$Arc", "hears", "()I"⟩ 0 := ⟨by decide +kernel, by decide +kernel, by decide +kernel⟩
def bX0_lambda_new_0_15 (E : Nat → Value) (Q : Rs → HS → Prop) : Ct :=
  o_ireturn .boolean Q
def bX0_lambda_new_0_14 (E : Nat → Value) (Q : Rs → HS → Prop) : Ct :=
  o_push (.int 0) <|
  (bX0_lambda_new_0_15 E Q)
def bX0_lambda_new_0_6 (E : Nat → Value) (Q : Rs → HS → Prop) : Ct :=
  o_iload 0 <|
  o_icmpne (bX0_lambda_new_0_14 E Q) <|
  o_push (.int 1) <|
  (bX0_lambda_new_0_15 E Q)
def bX0_lambda_new_0_0 (E : Nat → Value) (Q : Rs → HS → Prop) : Ct :=
  o_aload 1 <|
  o_vsel 1 [10] (o_callV [10] 1 (wX7_hears E) (x_out Q) (bX0_lambda_new_0_6 E Q)) (o_callV [11] 1 (wX8_hears E) (x_out Q) (bX0_lambda_new_0_6 E Q))
def wX0_lambda_new_0 (E : Nat → Value) : Wp := fun av h Q => match av with
  | [a0, a1] => bX0_lambda_new_0_0 E Q [a0, a1] [] h
  | _ => False
set_option maxHeartbeats 4000000 in
theorem tX0_lambda_new_0_15 {x : CX} {E : Nat → Value} {Q : Rs → HS → Prop} (EN : EX x E) (G : Gd x cX0_lambda_new_0 "ChantRules" yX0_lambda_new_0 2 (Option.some Jvm.ClassFile.FieldType.boolean) Q) (hF : x.1.2.2.2.frames = 3 ∧ x.1.2.2.2.locals = 84) (hC : x.2.2.2.2.2 = (fun _ => false)) (hxt : (∀ z ∈ x.2.2.1.2.1.exceptionTable.toList, False)) : Snd x 15 (bX0_lambda_new_0_15 E Q) := by
  unfold bX0_lambda_new_0_15
  exact s_ireturn G dX0_lambda_new_0_15
set_option maxHeartbeats 4000000 in
theorem tX0_lambda_new_0_14 {x : CX} {E : Nat → Value} {Q : Rs → HS → Prop} (EN : EX x E) (G : Gd x cX0_lambda_new_0 "ChantRules" yX0_lambda_new_0 2 (Option.some Jvm.ClassFile.FieldType.boolean) Q) (hF : x.1.2.2.2.frames = 3 ∧ x.1.2.2.2.locals = 84) (hC : x.2.2.2.2.2 = (fun _ => false)) (hxt : (∀ z ∈ x.2.2.1.2.1.exceptionTable.toList, False)) : Snd x 14 (bX0_lambda_new_0_14 E Q) := by
  unfold bX0_lambda_new_0_14
  refine s_iconst (by decide) G.b dX0_lambda_new_0_14 ?_
  exact (tX0_lambda_new_0_15 EN G hF hC hxt)
set_option maxHeartbeats 4000000 in
theorem tX0_lambda_new_0_6 {x : CX} {E : Nat → Value} {Q : Rs → HS → Prop} (EN : EX x E) (G : Gd x cX0_lambda_new_0 "ChantRules" yX0_lambda_new_0 2 (Option.some Jvm.ClassFile.FieldType.boolean) Q) (hF : x.1.2.2.2.frames = 3 ∧ x.1.2.2.2.locals = 84) (hC : x.2.2.2.2.2 = (fun _ => false)) (hxt : (∀ z ∈ x.2.2.1.2.1.exceptionTable.toList, False)) : Snd x 6 (bX0_lambda_new_0_6 E Q) := by
  unfold bX0_lambda_new_0_6
  refine s_iload_n rfl G.b dX0_lambda_new_0_6 ?_
  refine s_icmpne (tgt := 14) G.b dX0_lambda_new_0_7 (by decide) (tX0_lambda_new_0_14 EN G hF hC hxt) ?_
  refine s_iconst (by decide) G.b dX0_lambda_new_0_10 ?_
  exact s_goto (tgt := 15) G.b dX0_lambda_new_0_11 (by decide) (tX0_lambda_new_0_15 EN G hF hC hxt)
set_option maxHeartbeats 4000000 in
theorem tX0_lambda_new_0_0 {x : CX} {E : Nat → Value} {Q : Rs → HS → Prop} (EN : EX x E) (G : Gd x cX0_lambda_new_0 "ChantRules" yX0_lambda_new_0 2 (Option.some Jvm.ClassFile.FieldType.boolean) Q) (hF : x.1.2.2.2.frames = 3 ∧ x.1.2.2.2.locals = 84) (hC : x.2.2.2.2.2 = (fun _ => false)) (hxt : (∀ z ∈ x.2.2.1.2.1.exceptionTable.toList, False)) : Snd x 0 (bX0_lambda_new_0_0 E Q) := by
  unfold bX0_lambda_new_0_0
  refine s_aload_n rfl G.b dX0_lambda_new_0_0 ?_
  exact (s_vsel (s_callF (r0 := (RX7, TX7, 4)) (w := ⟨"ChantRules$Arc", "hears", "()I"⟩) (by decide) rfl G (mX7_hears EN) q284 (va_Fw.moved (by decide +kernel) G.warm.alike ⟨(EN.nw q286 rfl), (EN.nw q285 rfl), (EN.nw q291 rfl), (EN.nw q289 rfl), (EN.nw q287 rfl)⟩) q288 q290 q99 q292 nmk_20 (rm_of hF (Nat.le_of_ble_eq_true rfl) (Nat.le_of_ble_eq_true rfl)) dX0_lambda_new_0_1 (tX0_lambda_new_0_6 EN G hF hC hxt) (sx_out G (fun z hz => (hxt z hz).elim)) ) (s_callF (r0 := (RX8, TX8, 5)) (w := ⟨"ChantRules$Arc", "hears", "()I"⟩) (by decide) rfl G (mX8_hears EN) q284 (va_Fw.moved (by decide +kernel) G.warm.alike ⟨(EN.nw q286 rfl), (EN.nw q285 rfl), (EN.nw q297 rfl), (EN.nw q295 rfl), (EN.nw q293 rfl)⟩) q294 q296 q100 q298 nmk_20 (rm_of hF (Nat.le_of_ble_eq_true rfl) (Nat.le_of_ble_eq_true rfl)) dX0_lambda_new_0_1 (tX0_lambda_new_0_6 EN G hF hC hxt) (sx_out G (fun z hz => (hxt z hz).elim)) ))
set_option maxHeartbeats 4000000 in
theorem mX0_lambda_new_0 {l : Launch} {D : DE} {s0 : State} {E : Nat → Value} (EN : EV l D s0 E) : rMet l D s0 yX0_lambda_new_0 (ws_ yX0_lambda_new_0 cX0_lambda_new_0 2 (Option.some Jvm.ClassFile.FieldType.boolean)) 3 84 (wX0_lambda_new_0 E) := by
  refine body_met (fun _ => false) EN.kn (fun w h => h) (by decide +kernel) rfl (fun av h Q hw => ?_) ?_
  · unfold wX0_lambda_new_0 at hw
    split at hw
    · exact Nat.le_of_ble_eq_true rfl
    · exact hw.elim
  · intro p e s m below meth c av h Q hxt G hw
    unfold wX0_lambda_new_0 at hw
    split at hw
    · exact tX0_lambda_new_0_0 EN G ⟨rfl, rfl⟩ rfl hxt _ _ _ hw
    · exact hw.elim
theorem mo_7 {E : Nat → Value} : moW (wX7_hears E) := by
  intro av h Q Q' hQ hw
  match av, hw with
  | [a0], hw =>
    have hw : bX7_hears_0 E Q [a0] [] h := hw
    show bX7_hears_0 E Q' [a0] [] h
    unfold bX7_hears_0 at hw ⊢
    exact mo_ireturn (fun v h _ q => hQ _ _ q) _ _ _ hw
  | [], hw => exact (show False from hw).elim
  | _ :: _ :: _, hw => exact (show False from hw).elim
theorem mo_8 {E : Nat → Value} : moW (wX8_hears E) := by
  intro av h Q Q' hQ hw
  match av, hw with
  | [a0], hw =>
    have hw : bX8_hears_0 E Q [a0] [] h := hw
    show bX8_hears_0 E Q' [a0] [] h
    unfold bX8_hears_0 at hw ⊢
    exact mo_aload (mo_getf (mo_ireturn (fun v h _ q => hQ _ _ q))) _ _ _ hw
  | [], hw => exact (show False from hw).elim
  | _ :: _ :: _, hw => exact (show False from hw).elim
theorem lam_ty {E : Nat → Value} (av : List Value) (h : HS) (Q : Rs → HS → Prop) (hw : wX0_lambda_new_0 E av h Q) : wX0_lambda_new_0 E av h (fun rs h' => Q rs h' ∧ tyB rs) := by
  have b15 : leC (bX0_lambda_new_0_15 E Q) (bX0_lambda_new_0_15 E (fun rs h' => Q rs h' ∧ tyB rs)) := by
    unfold bX0_lambda_new_0_15
    exact mo_ireturn (fun v h hn q => ⟨q, hn⟩)
  have b14 : leC (bX0_lambda_new_0_14 E Q) (bX0_lambda_new_0_14 E (fun rs h' => Q rs h' ∧ tyB rs)) := by
    unfold bX0_lambda_new_0_14
    exact fun ls st h hk => b15 _ _ _ hk
  have b6 : leC (bX0_lambda_new_0_6 E Q) (bX0_lambda_new_0_6 E (fun rs h' => Q rs h' ∧ tyB rs)) := by
    unfold bX0_lambda_new_0_6
    exact mo_iload (mo_icmpne b14 (fun ls st h hk => b15 _ _ _ hk))
  have hX : leX (x_out Q) (x_out (fun rs h' => Q rs h' ∧ tyB rs)) := mo_out (fun q h hq => ⟨hq, trivial⟩)
  match av, hw with
  | [a0, a1], hw =>
    have hw : bX0_lambda_new_0_0 E Q [a0, a1] [] h := hw
    show bX0_lambda_new_0_0 E (fun rs h' => Q rs h' ∧ tyB rs) [a0, a1] [] h
    unfold bX0_lambda_new_0_0 at hw ⊢
    exact mo_aload (mo_vsel (mo_callV mo_7 hX b6) (mo_callV mo_8 hX b6)) _ _ _ hw
  | [], hw => exact (show False from hw).elim
  | [_], hw => exact (show False from hw).elim
  | _ :: _ :: _ :: _, hw => exact (show False from hw).elim
/-! ChantRules$Rule.so(LChantRules$Test;)I (X3_so) -/
def bX3_so_52 (E : Nat → Value) (Q : Rs → HS → Prop) (X10 : Ct) : Ct :=
  o_iload 2 <|
  o_ireturn .int Q
def bX3_so_47 (E : Nat → Value) (Q : Rs → HS → Prop) (X10 : Ct) : Ct :=
  o_iadd <|
  o_istore 2 <|
  X10
def bX3_so_46 (E : Nat → Value) (Q : Rs → HS → Prop) (X10 : Ct) : Ct :=
  o_push (.int 0) <|
  (bX3_so_47 E Q X10)
def bX3_so_10 (E : Nat → Value) (Q : Rs → HS → Prop) (X10 : Ct) : Ct :=
  o_aload 3 <|
  o_callV [20] 1 (wJ9_hasNext E) (x_out Q) <|
  o_ifeq (bX3_so_52 E Q X10) <|
  o_aload 3 <|
  o_callV [20] 1 (wJ9_next E) (x_out Q) <|
  o_cast [10, 11] <|
  o_astore 4 <|
  o_iload 2 <|
  o_aload 1 <|
  o_aload 4 <|
  o_callLam (wX0_lambda_new_0 E) (x_out Q) <|
  o_ifeq (bX3_so_46 E Q X10) <|
  o_push (.int 1) <|
  (bX3_so_47 E Q X10)
def bX3_so_0 (E : Nat → Value) (Q : Rs → HS → Prop) (X10 : Ct) : Ct :=
  o_push (.int 0) <|
  o_istore 2 <|
  o_aload 0 <|
  o_getf [2] 0 <|
  o_callV [15] 1 (wJ2_iterator E) (x_out Q) <|
  o_astore 3 <|
  X10
def wX3_so (E : Nat → Value) : Wp := fun av h Q => match av with
  | [a0, a1] => ∀ X10 : Ct, (∀ ls st h, bX3_so_10 E Q X10 ls st h → X10 ls st h) → bX3_so_0 E Q X10 [a0, a1, jk, jk, jk] [] h
  | _ => False
set_option maxHeartbeats 4000000 in
theorem tX3_so_52 {x : CX} {E : Nat → Value} {Q : Rs → HS → Prop} {X10 : Ct} (EN : EX x E) (G : Gd x cX3_so "ChantRules$Rule" yX3_so 5 (Option.some Jvm.ClassFile.FieldType.int) Q) (hF : x.1.2.2.2.frames = 8 ∧ x.1.2.2.2.locals = 200) (hC : x.2.2.2.2.2 = (fun _ => false)) (hxt : (∀ z ∈ x.2.2.1.2.1.exceptionTable.toList, False)) (h10 : Snd x 10 X10) : Snd x 52 (bX3_so_52 E Q X10) := by
  unfold bX3_so_52
  refine s_iload_n rfl G.b dX3_so_52 ?_
  exact s_ireturn G dX3_so_53
set_option maxHeartbeats 4000000 in
theorem tX3_so_47 {x : CX} {E : Nat → Value} {Q : Rs → HS → Prop} {X10 : Ct} (EN : EX x E) (G : Gd x cX3_so "ChantRules$Rule" yX3_so 5 (Option.some Jvm.ClassFile.FieldType.int) Q) (hF : x.1.2.2.2.frames = 8 ∧ x.1.2.2.2.locals = 200) (hC : x.2.2.2.2.2 = (fun _ => false)) (hxt : (∀ z ∈ x.2.2.1.2.1.exceptionTable.toList, False)) (h10 : Snd x 10 X10) : Snd x 47 (bX3_so_47 E Q X10) := by
  unfold bX3_so_47
  refine s_iadd G.b dX3_so_47 ?_
  refine s_istore_n rfl G.b (by rw [G.nl]; decide) (fun _ _ => by rw [hC]) dX3_so_48 ?_
  exact s_goto (tgt := 10) G.b dX3_so_49 (by decide) h10
set_option maxHeartbeats 4000000 in
theorem tX3_so_46 {x : CX} {E : Nat → Value} {Q : Rs → HS → Prop} {X10 : Ct} (EN : EX x E) (G : Gd x cX3_so "ChantRules$Rule" yX3_so 5 (Option.some Jvm.ClassFile.FieldType.int) Q) (hF : x.1.2.2.2.frames = 8 ∧ x.1.2.2.2.locals = 200) (hC : x.2.2.2.2.2 = (fun _ => false)) (hxt : (∀ z ∈ x.2.2.1.2.1.exceptionTable.toList, False)) (h10 : Snd x 10 X10) : Snd x 46 (bX3_so_46 E Q X10) := by
  unfold bX3_so_46
  refine s_iconst (by decide) G.b dX3_so_46 ?_
  exact (tX3_so_47 EN G hF hC hxt h10)
set_option maxHeartbeats 4000000 in
theorem tX3_so_10 {x : CX} {E : Nat → Value} {Q : Rs → HS → Prop} {X10 : Ct} (EN : EX x E) (G : Gd x cX3_so "ChantRules$Rule" yX3_so 5 (Option.some Jvm.ClassFile.FieldType.int) Q) (hF : x.1.2.2.2.frames = 8 ∧ x.1.2.2.2.locals = 200) (hC : x.2.2.2.2.2 = (fun _ => false)) (hxt : (∀ z ∈ x.2.2.1.2.1.exceptionTable.toList, False)) (h10 : Snd x 10 X10) : Snd x 10 (bX3_so_10 E Q X10) := by
  unfold bX3_so_10
  refine s_aload_n rfl G.b dX3_so_10 ?_
  refine s_callF (r0 := (RJ9, TJ9, 4)) (w := ⟨"java/util/Iterator", "hasNext", "()Z"⟩) (by decide) rfl G (mJ9_hasNext EN) q378 (va_Fw.moved (by decide +kernel) G.warm.alike ⟨(EN.nw q380 rfl), (EN.nw q379 rfl), (EN.nw q385 rfl), (EN.nw q383 rfl), (EN.nw q381 rfl)⟩) q382 q384 q91 q386 nmk_15 (rm_of hF (Nat.le_of_ble_eq_true rfl) (Nat.le_of_ble_eq_true rfl)) dX3_so_11 ?_ (sx_out G (fun z hz => (hxt z hz).elim))
  refine s_ifeq (tgt := 52) G.b dX3_so_16 (by decide) (tX3_so_52 EN G hF hC hxt h10) ?_
  refine s_aload_n rfl G.b dX3_so_19 ?_
  refine s_callF (r0 := (RJ9, TJ9, 4)) (w := ⟨"java/util/Iterator", "next", "()Ljava/lang/Object;"⟩) (by decide) rfl G (mJ9_next EN) q388 (va_Fw.moved (by decide +kernel) G.warm.alike ⟨(EN.nw q390 rfl), (EN.nw q389 rfl), (EN.nw q394 rfl), (EN.nw q392 rfl), (EN.nw q381 rfl)⟩) q391 q393 q91 q395 nmk_16 (rm_of hF (Nat.le_of_ble_eq_true rfl) (Nat.le_of_ble_eq_true rfl)) dX3_so_20 ?_ (sx_out G (fun z hz => (hxt z hz).elim))
  refine s_cast G.b G.ow G.kn G.hts q400 ct_1 dX3_so_25 ?_
  refine s_astore G.b (by rw [G.nl]; decide) (fun _ _ => by rw [hC]) dX3_so_28 ?_
  refine s_iload_n rfl G.b dX3_so_30 ?_
  refine s_aload_n rfl G.b dX3_so_31 ?_
  refine s_aload G.b dX3_so_32 ?_
  refine s_callLam EN G (rm_of hF (Nat.le_of_ble_eq_true rfl) (Nat.le_of_ble_eq_true rfl)) lam_ty (mX0_lambda_new_0 EN) q1824 dX3_so_34 ?_ (sx_out G (fun z hz => (hxt z hz).elim))
  refine s_ifeq (tgt := 46) G.b dX3_so_39 (by decide) (tX3_so_46 EN G hF hC hxt h10) ?_
  refine s_iconst (by decide) G.b dX3_so_42 ?_
  exact s_goto (tgt := 47) G.b dX3_so_43 (by decide) (tX3_so_47 EN G hF hC hxt h10)
set_option maxHeartbeats 4000000 in
theorem tX3_so_0 {x : CX} {E : Nat → Value} {Q : Rs → HS → Prop} {X10 : Ct} (EN : EX x E) (G : Gd x cX3_so "ChantRules$Rule" yX3_so 5 (Option.some Jvm.ClassFile.FieldType.int) Q) (hF : x.1.2.2.2.frames = 8 ∧ x.1.2.2.2.locals = 200) (hC : x.2.2.2.2.2 = (fun _ => false)) (hxt : (∀ z ∈ x.2.2.1.2.1.exceptionTable.toList, False)) (h10 : Snd x 10 X10) : Snd x 0 (bX3_so_0 E Q X10) := by
  unfold bX3_so_0
  refine s_iconst (by decide) G.b dX3_so_0 ?_
  refine s_istore_n rfl G.b (by rw [G.nl]; decide) (fun _ _ => by rw [hC]) dX3_so_1 ?_
  refine s_aload_n rfl G.b dX3_so_2 ?_
  refine s_getf G.b G.ow G.kn (G.hts _ q175) (fun _ h => h) fa_3 dX3_so_3 ?_
  refine s_callV G (mJ2_iterator EN) q354 q355 (sel_cons (r := (RJ2, TJ2, 3)) (by decide) rfl q356 (sel_nil)) q82 q357 nmk_18 (rm_of hF (Nat.le_of_ble_eq_true rfl) (Nat.le_of_ble_eq_true rfl)) dX3_so_6 ?_ (sx_out G (fun z hz => (hxt z hz).elim))
  refine s_astore_n rfl G.b (by rw [G.nl]; decide) (fun _ _ => by rw [hC]) dX3_so_9 ?_
  exact h10
set_option maxHeartbeats 4000000 in
theorem mX3_so {l : Launch} {D : DE} {s0 : State} {E : Nat → Value} (EN : EV l D s0 E) : rMet l D s0 yX3_so (ws_ yX3_so cX3_so 5 (Option.some Jvm.ClassFile.FieldType.int)) 8 200 (wX3_so E) := by
  refine body_met (fun _ => false) EN.kn (fun w h => h) (by decide +kernel) rfl (fun av h Q hw => ?_) ?_
  · unfold wX3_so at hw
    split at hw
    · exact Nat.le_of_ble_eq_true rfl
    · exact hw.elim
  · intro p e s m below meth c av h Q hxt G hw
    unfold wX3_so at hw
    split at hw
    · exact tX3_so_0 EN G ⟨rfl, rfl⟩ rfl hxt (fun _ _ _ h => h) _ _ _ (hw (AW _ 10) (tX3_so_10 EN G ⟨rfl, rfl⟩ rfl hxt (fun _ _ _ h => h)))
    · exact hw.elim
/-! java/lang/AbstractStringBuilder.length()I (J4_length) -/
theorem fa_23 : fieldAt [18] 3 "java/lang/AbstractStringBuilder" "count" "I" := fa_cons (r := (RJ5, TJ5, 4)) rfl (by decide) rfl rfl rfl (fa_nil)
def bJ4_length_0 (E : Nat → Value) (Q : Rs → HS → Prop) : Ct :=
  o_aload 0 <|
  o_getf [18] 3 <|
  o_ireturn .int Q
def wJ4_length (E : Nat → Value) : Wp := fun av h Q => match av with
  | [a0] => bJ4_length_0 E Q [a0] [] h
  | _ => False
set_option maxHeartbeats 4000000 in
theorem tJ4_length_0 {x : CX} {E : Nat → Value} {Q : Rs → HS → Prop} (EN : EX x E) (G : Gd x cJ4_length "java/lang/AbstractStringBuilder" yJ4_length 1 (Option.some Jvm.ClassFile.FieldType.int) Q) (hF : x.1.2.2.2.frames = 2 ∧ x.1.2.2.2.locals = 64) (hC : x.2.2.2.2.2 = (fun _ => false)) (hxt : (∀ z ∈ x.2.2.1.2.1.exceptionTable.toList, False)) : Snd x 0 (bJ4_length_0 E Q) := by
  unfold bJ4_length_0
  refine s_aload_n rfl G.b dJ4_length_0 ?_
  refine s_getf G.b G.ow G.kn (G.hts _ q249) (fun _ h => h) fa_23 dJ4_length_1 ?_
  exact s_ireturn G dJ4_length_4
set_option maxHeartbeats 4000000 in
theorem mJ4_length {l : Launch} {D : DE} {s0 : State} {E : Nat → Value} (EN : EV l D s0 E) : rMet l D s0 yJ4_length (ws_ yJ4_length cJ4_length 1 (Option.some Jvm.ClassFile.FieldType.int)) 2 64 (wJ4_length E) := by
  refine body_met (fun _ => false) EN.kn (fun w h => h) (by decide +kernel) rfl (fun av h Q hw => ?_) ?_
  · unfold wJ4_length at hw
    split at hw
    · exact Nat.le_of_ble_eq_true rfl
    · exact hw.elim
  · intro p e s m below meth c av h Q hxt G hw
    unfold wJ4_length at hw
    split at hw
    · exact tJ4_length_0 EN G ⟨rfl, rfl⟩ rfl hxt _ _ _ hw
    · exact hw.elim
/-! java/lang/StringBuilder.length()I (J5_length) -/
theorem nmk_21 : nm_ok yJ4_length 0 := ⟨by decide +kernel, by decide +kernel, by decide +kernel⟩
def bJ5_length_0 (E : Nat → Value) (Q : Rs → HS → Prop) : Ct :=
  o_aload 0 <|
  o_callV [18] 1 (wJ4_length E) (x_out Q) <|
  o_ireturn .int Q
def wJ5_length (E : Nat → Value) : Wp := fun av h Q => match av with
  | [a0] => bJ5_length_0 E Q [a0] [] h
  | _ => False
set_option maxHeartbeats 4000000 in
theorem tJ5_length_0 {x : CX} {E : Nat → Value} {Q : Rs → HS → Prop} (EN : EX x E) (G : Gd x cJ5_length "java/lang/StringBuilder" yJ5_length 1 (Option.some Jvm.ClassFile.FieldType.int) Q) (hF : x.1.2.2.2.frames = 3 ∧ x.1.2.2.2.locals = 84) (hC : x.2.2.2.2.2 = (fun _ => false)) (hxt : (∀ z ∈ x.2.2.1.2.1.exceptionTable.toList, False)) : Snd x 0 (bJ5_length_0 E Q) := by
  unfold bJ5_length_0
  refine s_aload_n rfl G.b dJ5_length_0 ?_
  refine s_callSU (by decide) G (mJ4_length EN) q940 q2342 q258 q941 q84 q942 (by decide) nmk_21 (rm_of hF (Nat.le_of_ble_eq_true rfl) (Nat.le_of_ble_eq_true rfl)) dJ5_length_1 ?_ (sx_out G (fun z hz => (hxt z hz).elim))
  exact s_ireturn G dJ5_length_4
set_option maxHeartbeats 4000000 in
theorem mJ5_length {l : Launch} {D : DE} {s0 : State} {E : Nat → Value} (EN : EV l D s0 E) : rMet l D s0 yJ5_length (ws_ yJ5_length cJ5_length 1 (Option.some Jvm.ClassFile.FieldType.int)) 3 84 (wJ5_length E) := by
  refine body_met (fun _ => false) EN.kn (fun w h => h) (by decide +kernel) rfl (fun av h Q hw => ?_) ?_
  · unfold wJ5_length at hw
    split at hw
    · exact Nat.le_of_ble_eq_true rfl
    · exact hw.elim
  · intro p e s m below meth c av h Q hxt G hw
    unfold wJ5_length at hw
    split at hw
    · exact tJ5_length_0 EN G ⟨rfl, rfl⟩ rfl hxt _ _ _ hw
    · exact hw.elim
/-! java/util/ArrayDeque.sub(III)I (J3_sub) -/
def bJ3_sub_12 (E : Nat → Value) (Q : Rs → HS → Prop) : Ct :=
  o_iload 0 <|
  o_ireturn .int Q
def bJ3_sub_0 (E : Nat → Value) (Q : Rs → HS → Prop) : Ct :=
  o_iload 0 <|
  o_iload 1 <|
  o_isub <|
  o_dup <|
  o_istore 0 <|
  o_ifge (bJ3_sub_12 E Q) <|
  o_iload 0 <|
  o_iload 2 <|
  o_iadd <|
  o_istore 0 <|
  (bJ3_sub_12 E Q)
def wJ3_sub (E : Nat → Value) : Wp := fun av h Q => match av with
  | [a0, a1, a2] => bJ3_sub_0 E Q [a0, a1, a2] [] h
  | _ => False
set_option maxHeartbeats 4000000 in
theorem tJ3_sub_12 {x : CX} {E : Nat → Value} {Q : Rs → HS → Prop} (EN : EX x E) (G : Gd x cJ3_sub "java/util/ArrayDeque" yJ3_sub 3 (Option.some Jvm.ClassFile.FieldType.int) Q) (hF : x.1.2.2.2.frames = 2 ∧ x.1.2.2.2.locals = 64) (hC : x.2.2.2.2.2 = (fun _ => false)) (hxt : (∀ z ∈ x.2.2.1.2.1.exceptionTable.toList, False)) : Snd x 12 (bJ3_sub_12 E Q) := by
  unfold bJ3_sub_12
  refine s_iload_n rfl G.b dJ3_sub_12 ?_
  exact s_ireturn G dJ3_sub_13
set_option maxHeartbeats 4000000 in
theorem tJ3_sub_0 {x : CX} {E : Nat → Value} {Q : Rs → HS → Prop} (EN : EX x E) (G : Gd x cJ3_sub "java/util/ArrayDeque" yJ3_sub 3 (Option.some Jvm.ClassFile.FieldType.int) Q) (hF : x.1.2.2.2.frames = 2 ∧ x.1.2.2.2.locals = 64) (hC : x.2.2.2.2.2 = (fun _ => false)) (hxt : (∀ z ∈ x.2.2.1.2.1.exceptionTable.toList, False)) : Snd x 0 (bJ3_sub_0 E Q) := by
  unfold bJ3_sub_0
  refine s_iload_n rfl G.b dJ3_sub_0 ?_
  refine s_iload_n rfl G.b dJ3_sub_1 ?_
  refine s_isub G.b dJ3_sub_2 ?_
  refine s_dup G.b dJ3_sub_3 ?_
  refine s_istore_n rfl G.b (by rw [G.nl]; decide) (fun _ _ => by rw [hC]) dJ3_sub_4 ?_
  refine s_ifge (tgt := 12) G.b dJ3_sub_5 (by decide) (tJ3_sub_12 EN G hF hC hxt) ?_
  refine s_iload_n rfl G.b dJ3_sub_8 ?_
  refine s_iload_n rfl G.b dJ3_sub_9 ?_
  refine s_iadd G.b dJ3_sub_10 ?_
  refine s_istore_n rfl G.b (by rw [G.nl]; decide) (fun _ _ => by rw [hC]) dJ3_sub_11 ?_
  exact (tJ3_sub_12 EN G hF hC hxt)
set_option maxHeartbeats 4000000 in
theorem mJ3_sub {l : Launch} {D : DE} {s0 : State} {E : Nat → Value} (EN : EV l D s0 E) : rMet l D s0 yJ3_sub (ws_ yJ3_sub cJ3_sub 3 (Option.some Jvm.ClassFile.FieldType.int)) 2 64 (wJ3_sub E) := by
  refine body_met (fun _ => false) EN.kn (fun w h => h) (by decide +kernel) rfl (fun av h Q hw => ?_) ?_
  · unfold wJ3_sub at hw
    split at hw
    · exact Nat.le_of_ble_eq_true rfl
    · exact hw.elim
  · intro p e s m below meth c av h Q hxt G hw
    unfold wJ3_sub at hw
    split at hw
    · exact tJ3_sub_0 EN G ⟨rfl, rfl⟩ rfl hxt _ _ _ hw
    · exact hw.elim
/-! java/util/ArrayDeque.size()I (J3_size) -/
theorem fa_24 : fieldAt [17] 2 "java/util/ArrayDeque" "tail" "I" := fa_cons (r := (RJ3, TJ3, 3)) rfl (by decide) rfl rfl rfl (fa_nil)
theorem fa_25 : fieldAt [17] 1 "java/util/ArrayDeque" "head" "I" := fa_cons (r := (RJ3, TJ3, 3)) rfl (by decide) rfl rfl rfl (fa_nil)
theorem nmk_22 : nm_ok yJ3_sub 3 := ⟨by decide +kernel, by decide +kernel, by decide +kernel⟩
def bJ3_size_0 (E : Nat → Value) (Q : Rs → HS → Prop) : Ct :=
  o_aload 0 <|
  o_getf [17] 2 <|
  o_aload 0 <|
  o_getf [17] 1 <|
  o_aload 0 <|
  o_getf [17] 0 <|
  o_alen <|
  o_call 3 (wJ3_sub E) (x_out Q) <|
  o_ireturn .int Q
def wJ3_size (E : Nat → Value) : Wp := fun av h Q => match av with
  | [a0] => bJ3_size_0 E Q [a0] [] h
  | _ => False
set_option maxHeartbeats 4000000 in
theorem tJ3_size_0 {x : CX} {E : Nat → Value} {Q : Rs → HS → Prop} (EN : EX x E) (G : Gd x cJ3_size "java/util/ArrayDeque" yJ3_size 1 (Option.some Jvm.ClassFile.FieldType.int) Q) (hF : x.1.2.2.2.frames = 3 ∧ x.1.2.2.2.locals = 86) (hC : x.2.2.2.2.2 = (fun _ => false)) (hxt : (∀ z ∈ x.2.2.1.2.1.exceptionTable.toList, False)) : Snd x 0 (bJ3_size_0 E Q) := by
  unfold bJ3_size_0
  refine s_aload_n rfl G.b dJ3_size_0 ?_
  refine s_getf G.b G.ow G.kn (G.hts _ q219) (fun _ h => h) fa_24 dJ3_size_1 ?_
  refine s_aload_n rfl G.b dJ3_size_4 ?_
  refine s_getf G.b G.ow G.kn (G.hts _ q218) (fun _ h => h) fa_25 dJ3_size_5 ?_
  refine s_aload_n rfl G.b dJ3_size_8 ?_
  refine s_getf G.b G.ow G.kn (G.hts _ q217) (fun _ h => h) fa_9 dJ3_size_9 ?_
  refine s_alen G.b G.kn dJ3_size_12 ?_
  refine s_callS G (mJ3_sub EN) q574 q575 q83 q576 nmk_22 (rm_of hF (Nat.le_of_ble_eq_true rfl) (Nat.le_of_ble_eq_true rfl)) dJ3_size_13 ?_ (sx_out G (fun z hz => (hxt z hz).elim))
  exact s_ireturn G dJ3_size_16
set_option maxHeartbeats 4000000 in
theorem mJ3_size {l : Launch} {D : DE} {s0 : State} {E : Nat → Value} (EN : EV l D s0 E) : rMet l D s0 yJ3_size (ws_ yJ3_size cJ3_size 1 (Option.some Jvm.ClassFile.FieldType.int)) 3 86 (wJ3_size E) := by
  refine body_met (fun _ => false) EN.kn (fun w h => h) (by decide +kernel) rfl (fun av h Q hw => ?_) ?_
  · unfold wJ3_size at hw
    split at hw
    · exact Nat.le_of_ble_eq_true rfl
    · exact hw.elim
  · intro p e s m below meth c av h Q hxt G hw
    unfold wJ3_size at hw
    split at hw
    · exact tJ3_size_0 EN G ⟨rfl, rfl⟩ rfl hxt _ _ _ hw
    · exact hw.elim
/-! java/util/ArrayList.size()I (J2_size) -/
def bJ2_size_0 (E : Nat → Value) (Q : Rs → HS → Prop) : Ct :=
  o_aload 0 <|
  o_getf [15] 2 <|
  o_ireturn .int Q
def wJ2_size (E : Nat → Value) : Wp := fun av h Q => match av with
  | [a0] => bJ2_size_0 E Q [a0] [] h
  | _ => False
set_option maxHeartbeats 4000000 in
theorem tJ2_size_0 {x : CX} {E : Nat → Value} {Q : Rs → HS → Prop} (EN : EX x E) (G : Gd x cJ2_size "java/util/ArrayList" yJ2_size 1 (Option.some Jvm.ClassFile.FieldType.int) Q) (hF : x.1.2.2.2.frames = 2 ∧ x.1.2.2.2.locals = 64) (hC : x.2.2.2.2.2 = (fun _ => false)) (hxt : (∀ z ∈ x.2.2.1.2.1.exceptionTable.toList, False)) : Snd x 0 (bJ2_size_0 E Q) := by
  unfold bJ2_size_0
  refine s_aload_n rfl G.b dJ2_size_0 ?_
  refine s_getf G.b G.ow G.kn (G.hts _ q161) (fun _ h => h) fa_21 dJ2_size_1 ?_
  exact s_ireturn G dJ2_size_4
set_option maxHeartbeats 4000000 in
theorem mJ2_size {l : Launch} {D : DE} {s0 : State} {E : Nat → Value} (EN : EV l D s0 E) : rMet l D s0 yJ2_size (ws_ yJ2_size cJ2_size 1 (Option.some Jvm.ClassFile.FieldType.int)) 2 64 (wJ2_size E) := by
  refine body_met (fun _ => false) EN.kn (fun w h => h) (by decide +kernel) rfl (fun av h Q hw => ?_) ?_
  · unfold wJ2_size at hw
    split at hw
    · exact Nat.le_of_ble_eq_true rfl
    · exact hw.elim
  · intro p e s m below meth c av h Q hxt G hw
    unfold wJ2_size at hw
    split at hw
    · exact tJ2_size_0 EN G ⟨rfl, rfl⟩ rfl hxt _ _ _ hw
    · exact hw.elim
/-! ChantRules.account(I)I (X0_account) -/
theorem nmk_23 : nm_ok yJ3_size 0 := ⟨by decide +kernel, by decide +kernel, by decide +kernel⟩
theorem nmk_24 : nm_ok yJ5_length 0 := ⟨by decide +kernel, by decide +kernel, by decide +kernel⟩
theorem fa_26 : fieldAt [1] 3 "ChantRules$Choir" "turns" "I" := fa_cons (r := (RX1, TX1, 4)) rfl (by decide) rfl rfl rfl (fa_nil)
theorem fa_27 : fieldAt [1] 2 "ChantRules$Choir" "dropped" "I" := fa_cons (r := (RX1, TX1, 4)) rfl (by decide) rfl rfl rfl (fa_nil)
theorem fa_28 : fieldAt [1] 1 "ChantRules$Choir" "told" "I" := fa_cons (r := (RX1, TX1, 4)) rfl (by decide) rfl rfl rfl (fa_nil)
theorem nmk_25 : nm_ok yX3_so 1 := ⟨by decide +kernel, by decide +kernel, by decide +kernel⟩
theorem nmk_26 : nm_ok yX1_weights 0 := ⟨by decide +kernel, by decide +kernel, by decide +kernel⟩
theorem nmk_27 : nm_ok yX3_endMany 0 := ⟨by decide +kernel, by decide +kernel, by decide +kernel⟩
theorem nmk_28 : nm_ok yJ2_size 0 := ⟨by decide +kernel, by decide +kernel, by decide +kernel⟩
def bX0_account_222 (E : Nat → Value) (Q : Rs → HS → Prop) : Ct :=
  o_ireturn .int Q
def bX0_account_220 (E : Nat → Value) (Q : Rs → HS → Prop) : Ct :=
  o_push (.int (-12)) <|
  (bX0_account_222 E Q)
def bX0_account_210 (E : Nat → Value) (Q : Rs → HS → Prop) : Ct :=
  o_aload 0 <|
  o_getf [0] 3 <|
  o_callV [17] 1 (wJ3_size E) (x_out Q) <|
  (bX0_account_222 E Q)
def bX0_account_200 (E : Nat → Value) (Q : Rs → HS → Prop) : Ct :=
  o_aload 0 <|
  o_getf [0] 8 <|
  o_callV [18] 1 (wJ5_length E) (x_out Q) <|
  (bX0_account_222 E Q)
def bX0_account_190 (E : Nat → Value) (Q : Rs → HS → Prop) : Ct :=
  o_aload 0 <|
  o_getf [0] 1 <|
  o_getf [1] 3 <|
  (bX0_account_222 E Q)
def bX0_account_180 (E : Nat → Value) (Q : Rs → HS → Prop) : Ct :=
  o_aload 0 <|
  o_getf [0] 1 <|
  o_getf [1] 2 <|
  (bX0_account_222 E Q)
def bX0_account_170 (E : Nat → Value) (Q : Rs → HS → Prop) : Ct :=
  o_aload 0 <|
  o_getf [0] 1 <|
  o_getf [1] 1 <|
  (bX0_account_222 E Q)
def bX0_account_130 (E : Nat → Value) (Q : Rs → HS → Prop) : Ct :=
  o_aload 0 <|
  o_getf [0] 1 <|
  o_getf [1] 0 <|
  o_push (.int 0) <|
  o_ald [103, 104, 105, 106, 107] <|
  o_aload 0 <|
  o_getf [0] 0 <|
  o_push (.int 4) <|
  o_ald [103, 104, 105, 106, 107] <|
  o_callV [2] 2 (wX3_so E) (x_out Q) <|
  o_aload 0 <|
  o_getf [0] 1 <|
  o_getf [1] 0 <|
  o_push (.int 1) <|
  o_ald [103, 104, 105, 106, 107] <|
  o_aload 0 <|
  o_getf [0] 0 <|
  o_push (.int 4) <|
  o_ald [103, 104, 105, 106, 107] <|
  o_callV [2] 2 (wX3_so E) (x_out Q) <|
  o_iadd <|
  (bX0_account_222 E Q)
def bX0_account_120 (E : Nat → Value) (Q : Rs → HS → Prop) : Ct :=
  o_aload 0 <|
  o_getf [0] 1 <|
  o_callV [1] 1 (wX1_weights E) (x_out Q) <|
  (bX0_account_222 E Q)
def bX0_account_103 (E : Nat → Value) (Q : Rs → HS → Prop) : Ct :=
  o_aload 0 <|
  o_getf [0] 1 <|
  o_getf [1] 0 <|
  o_iload 1 <|
  o_push (.int 4) <|
  o_isub <|
  o_ald [103, 104, 105, 106, 107] <|
  o_callV [2] 1 (wX3_endMany E) (x_out Q) <|
  (bX0_account_222 E Q)
def bX0_account_83 (E : Nat → Value) (Q : Rs → HS → Prop) : Ct :=
  o_aload 0 <|
  o_getf [0] 1 <|
  o_getf [1] 0 <|
  o_iload 1 <|
  o_push (.int 2) <|
  o_isub <|
  o_ald [103, 104, 105, 106, 107] <|
  o_getf [2] 0 <|
  o_callV [15] 1 (wJ2_size E) (x_out Q) <|
  (bX0_account_222 E Q)
def bX0_account_68 (E : Nat → Value) (Q : Rs → HS → Prop) : Ct :=
  o_aload 0 <|
  o_getf [0] 1 <|
  o_getf [1] 0 <|
  o_iload 1 <|
  o_ald [103, 104, 105, 106, 107] <|
  o_getf [2] 2 <|
  (bX0_account_222 E Q)
def bX0_account_0 (E : Nat → Value) (Q : Rs → HS → Prop) : Ct :=
  o_iload 1 <|
  o_sw [(0, (bX0_account_68 E Q)), (1, (bX0_account_68 E Q)), (2, (bX0_account_83 E Q)), (3, (bX0_account_83 E Q)), (4, (bX0_account_103 E Q)), (5, (bX0_account_103 E Q)), (6, (bX0_account_120 E Q)), (7, (bX0_account_130 E Q)), (8, (bX0_account_170 E Q)), (9, (bX0_account_180 E Q)), (10, (bX0_account_190 E Q)), (11, (bX0_account_200 E Q)), (12, (bX0_account_210 E Q))] (bX0_account_220 E Q)
def wX0_account (E : Nat → Value) : Wp := fun av h Q => match av with
  | [a0, a1] => bX0_account_0 E Q [a0, a1] [] h
  | _ => False
set_option maxHeartbeats 4000000 in
theorem tX0_account_222 {x : CX} {E : Nat → Value} {Q : Rs → HS → Prop} (EN : EX x E) (G : Gd x cX0_account "ChantRules" yX0_account 2 (Option.some Jvm.ClassFile.FieldType.int) Q) (hF : x.1.2.2.2.frames = 9 ∧ x.1.2.2.2.locals = 224) (hC : x.2.2.2.2.2 = (fun _ => false)) (hxt : (∀ z ∈ x.2.2.1.2.1.exceptionTable.toList, False)) : Snd x 222 (bX0_account_222 E Q) := by
  unfold bX0_account_222
  exact s_ireturn G dX0_account_222
set_option maxHeartbeats 4000000 in
theorem tX0_account_220 {x : CX} {E : Nat → Value} {Q : Rs → HS → Prop} (EN : EX x E) (G : Gd x cX0_account "ChantRules" yX0_account 2 (Option.some Jvm.ClassFile.FieldType.int) Q) (hF : x.1.2.2.2.frames = 9 ∧ x.1.2.2.2.locals = 224) (hC : x.2.2.2.2.2 = (fun _ => false)) (hxt : (∀ z ∈ x.2.2.1.2.1.exceptionTable.toList, False)) : Snd x 220 (bX0_account_220 E Q) := by
  unfold bX0_account_220
  refine s_bipush (by decide) G.b dX0_account_220 ?_
  exact (tX0_account_222 EN G hF hC hxt)
set_option maxHeartbeats 4000000 in
theorem tX0_account_210 {x : CX} {E : Nat → Value} {Q : Rs → HS → Prop} (EN : EX x E) (G : Gd x cX0_account "ChantRules" yX0_account 2 (Option.some Jvm.ClassFile.FieldType.int) Q) (hF : x.1.2.2.2.frames = 9 ∧ x.1.2.2.2.locals = 224) (hC : x.2.2.2.2.2 = (fun _ => false)) (hxt : (∀ z ∈ x.2.2.1.2.1.exceptionTable.toList, False)) : Snd x 210 (bX0_account_210 E Q) := by
  unfold bX0_account_210
  refine s_aload_n rfl G.b dX0_account_210 ?_
  refine s_getf G.b G.ow G.kn (G.hts _ q302) (fun _ h => h) fa_12 dX0_account_211 ?_
  refine s_callV G (mJ3_size EN) q570 q571 (sel_cons (r := (RJ3, TJ3, 3)) (by decide) rfl q572 (sel_nil)) q83 q573 nmk_23 (rm_of hF (Nat.le_of_ble_eq_true rfl) (Nat.le_of_ble_eq_true rfl)) dX0_account_214 ?_ (sx_out G (fun z hz => (hxt z hz).elim))
  exact s_goto (tgt := 222) G.b dX0_account_217 (by decide) (tX0_account_222 EN G hF hC hxt)
set_option maxHeartbeats 4000000 in
theorem tX0_account_200 {x : CX} {E : Nat → Value} {Q : Rs → HS → Prop} (EN : EX x E) (G : Gd x cX0_account "ChantRules" yX0_account 2 (Option.some Jvm.ClassFile.FieldType.int) Q) (hF : x.1.2.2.2.frames = 9 ∧ x.1.2.2.2.locals = 224) (hC : x.2.2.2.2.2 = (fun _ => false)) (hxt : (∀ z ∈ x.2.2.1.2.1.exceptionTable.toList, False)) : Snd x 200 (bX0_account_200 E Q) := by
  unfold bX0_account_200
  refine s_aload_n rfl G.b dX0_account_200 ?_
  refine s_getf G.b G.ow G.kn (G.hts _ q307) (fun _ h => h) fa_13 dX0_account_201 ?_
  refine s_callV G (mJ5_length EN) q936 q937 (sel_cons (r := (RJ5, TJ5, 4)) (by decide) rfl q938 (sel_nil)) q85 q939 nmk_24 (rm_of hF (Nat.le_of_ble_eq_true rfl) (Nat.le_of_ble_eq_true rfl)) dX0_account_204 ?_ (sx_out G (fun z hz => (hxt z hz).elim))
  exact s_goto (tgt := 222) G.b dX0_account_207 (by decide) (tX0_account_222 EN G hF hC hxt)
set_option maxHeartbeats 4000000 in
theorem tX0_account_190 {x : CX} {E : Nat → Value} {Q : Rs → HS → Prop} (EN : EX x E) (G : Gd x cX0_account "ChantRules" yX0_account 2 (Option.some Jvm.ClassFile.FieldType.int) Q) (hF : x.1.2.2.2.frames = 9 ∧ x.1.2.2.2.locals = 224) (hC : x.2.2.2.2.2 = (fun _ => false)) (hxt : (∀ z ∈ x.2.2.1.2.1.exceptionTable.toList, False)) : Snd x 190 (bX0_account_190 E Q) := by
  unfold bX0_account_190
  refine s_aload_n rfl G.b dX0_account_190 ?_
  refine s_getf G.b G.ow G.kn (G.hts _ q300) (fun _ h => h) fa_11 dX0_account_191 ?_
  refine s_getfN G.b G.ow G.kn (va_Nw.use rfl (va_Nw.warmF G.warm (EN.nw q200 rfl))) (fun _ h => h) fa_26 dX0_account_194 ?_
  exact s_goto (tgt := 222) G.b dX0_account_197 (by decide) (tX0_account_222 EN G hF hC hxt)
set_option maxHeartbeats 4000000 in
theorem tX0_account_180 {x : CX} {E : Nat → Value} {Q : Rs → HS → Prop} (EN : EX x E) (G : Gd x cX0_account "ChantRules" yX0_account 2 (Option.some Jvm.ClassFile.FieldType.int) Q) (hF : x.1.2.2.2.frames = 9 ∧ x.1.2.2.2.locals = 224) (hC : x.2.2.2.2.2 = (fun _ => false)) (hxt : (∀ z ∈ x.2.2.1.2.1.exceptionTable.toList, False)) : Snd x 180 (bX0_account_180 E Q) := by
  unfold bX0_account_180
  refine s_aload_n rfl G.b dX0_account_180 ?_
  refine s_getf G.b G.ow G.kn (G.hts _ q300) (fun _ h => h) fa_11 dX0_account_181 ?_
  refine s_getfN G.b G.ow G.kn (va_Nw.use rfl (va_Nw.warmF G.warm (EN.nw q198 rfl))) (fun _ h => h) fa_27 dX0_account_184 ?_
  exact s_goto (tgt := 222) G.b dX0_account_187 (by decide) (tX0_account_222 EN G hF hC hxt)
set_option maxHeartbeats 4000000 in
theorem tX0_account_170 {x : CX} {E : Nat → Value} {Q : Rs → HS → Prop} (EN : EX x E) (G : Gd x cX0_account "ChantRules" yX0_account 2 (Option.some Jvm.ClassFile.FieldType.int) Q) (hF : x.1.2.2.2.frames = 9 ∧ x.1.2.2.2.locals = 224) (hC : x.2.2.2.2.2 = (fun _ => false)) (hxt : (∀ z ∈ x.2.2.1.2.1.exceptionTable.toList, False)) : Snd x 170 (bX0_account_170 E Q) := by
  unfold bX0_account_170
  refine s_aload_n rfl G.b dX0_account_170 ?_
  refine s_getf G.b G.ow G.kn (G.hts _ q300) (fun _ h => h) fa_11 dX0_account_171 ?_
  refine s_getfN G.b G.ow G.kn (va_Nw.use rfl (va_Nw.warmF G.warm (EN.nw q196 rfl))) (fun _ h => h) fa_28 dX0_account_174 ?_
  exact s_goto (tgt := 222) G.b dX0_account_177 (by decide) (tX0_account_222 EN G hF hC hxt)
set_option maxHeartbeats 4000000 in
theorem tX0_account_130 {x : CX} {E : Nat → Value} {Q : Rs → HS → Prop} (EN : EX x E) (G : Gd x cX0_account "ChantRules" yX0_account 2 (Option.some Jvm.ClassFile.FieldType.int) Q) (hF : x.1.2.2.2.frames = 9 ∧ x.1.2.2.2.locals = 224) (hC : x.2.2.2.2.2 = (fun _ => false)) (hxt : (∀ z ∈ x.2.2.1.2.1.exceptionTable.toList, False)) : Snd x 130 (bX0_account_130 E Q) := by
  unfold bX0_account_130
  refine s_aload_n rfl G.b dX0_account_130 ?_
  refine s_getf G.b G.ow G.kn (G.hts _ q300) (fun _ h => h) fa_11 dX0_account_131 ?_
  refine s_getfN G.b G.ow G.kn (va_Nw.use rfl (va_Nw.warmF G.warm (EN.nw q194 rfl))) (fun _ h => h) fa_5 dX0_account_134 ?_
  refine s_iconst (by decide) G.b dX0_account_137 ?_
  refine s_aald G.b G.kn dX0_account_138 ?_
  refine s_aload_n rfl G.b dX0_account_139 ?_
  refine s_getf G.b G.ow G.kn (G.hts _ q299) (fun _ h => h) fa_10 dX0_account_140 ?_
  refine s_iconst (by decide) G.b dX0_account_143 ?_
  refine s_aald G.b G.kn dX0_account_144 ?_
  refine s_callV G (mX3_so EN) q1819 q1820 (sel_cons (r := (RX3, TX3, 3)) (by decide) rfl q1821 (sel_nil)) q79 q1822 nmk_25 (rm_of hF (Nat.le_of_ble_eq_true rfl) (Nat.le_of_ble_eq_true rfl)) dX0_account_145 ?_ (sx_out G (fun z hz => (hxt z hz).elim))
  refine s_aload_n rfl G.b dX0_account_148 ?_
  refine s_getf G.b G.ow G.kn (G.hts _ q300) (fun _ h => h) fa_11 dX0_account_149 ?_
  refine s_getfN G.b G.ow G.kn (va_Nw.use rfl (va_Nw.warmF G.warm (EN.nw q194 rfl))) (fun _ h => h) fa_5 dX0_account_152 ?_
  refine s_iconst (by decide) G.b dX0_account_155 ?_
  refine s_aald G.b G.kn dX0_account_156 ?_
  refine s_aload_n rfl G.b dX0_account_157 ?_
  refine s_getf G.b G.ow G.kn (G.hts _ q299) (fun _ h => h) fa_10 dX0_account_158 ?_
  refine s_iconst (by decide) G.b dX0_account_161 ?_
  refine s_aald G.b G.kn dX0_account_162 ?_
  refine s_callV G (mX3_so EN) q1819 q1820 (sel_cons (r := (RX3, TX3, 3)) (by decide) rfl q1821 (sel_nil)) q79 q1822 nmk_25 (rm_of hF (Nat.le_of_ble_eq_true rfl) (Nat.le_of_ble_eq_true rfl)) dX0_account_163 ?_ (sx_out G (fun z hz => (hxt z hz).elim))
  refine s_iadd G.b dX0_account_166 ?_
  exact s_goto (tgt := 222) G.b dX0_account_167 (by decide) (tX0_account_222 EN G hF hC hxt)
set_option maxHeartbeats 4000000 in
theorem tX0_account_120 {x : CX} {E : Nat → Value} {Q : Rs → HS → Prop} (EN : EX x E) (G : Gd x cX0_account "ChantRules" yX0_account 2 (Option.some Jvm.ClassFile.FieldType.int) Q) (hF : x.1.2.2.2.frames = 9 ∧ x.1.2.2.2.locals = 224) (hC : x.2.2.2.2.2 = (fun _ => false)) (hxt : (∀ z ∈ x.2.2.1.2.1.exceptionTable.toList, False)) : Snd x 120 (bX0_account_120 E Q) := by
  unfold bX0_account_120
  refine s_aload_n rfl G.b dX0_account_120 ?_
  refine s_getf G.b G.ow G.kn (G.hts _ q300) (fun _ h => h) fa_11 dX0_account_121 ?_
  refine s_callV G (mX1_weights EN) q1811 q1812 (sel_cons (r := (RX1, TX1, 4)) (by decide) rfl q1813 (sel_nil)) q77 q1814 nmk_26 (rm_of hF (Nat.le_of_ble_eq_true rfl) (Nat.le_of_ble_eq_true rfl)) dX0_account_124 ?_ (sx_out G (fun z hz => (hxt z hz).elim))
  exact s_goto (tgt := 222) G.b dX0_account_127 (by decide) (tX0_account_222 EN G hF hC hxt)
set_option maxHeartbeats 4000000 in
theorem tX0_account_103 {x : CX} {E : Nat → Value} {Q : Rs → HS → Prop} (EN : EX x E) (G : Gd x cX0_account "ChantRules" yX0_account 2 (Option.some Jvm.ClassFile.FieldType.int) Q) (hF : x.1.2.2.2.frames = 9 ∧ x.1.2.2.2.locals = 224) (hC : x.2.2.2.2.2 = (fun _ => false)) (hxt : (∀ z ∈ x.2.2.1.2.1.exceptionTable.toList, False)) : Snd x 103 (bX0_account_103 E Q) := by
  unfold bX0_account_103
  refine s_aload_n rfl G.b dX0_account_103 ?_
  refine s_getf G.b G.ow G.kn (G.hts _ q300) (fun _ h => h) fa_11 dX0_account_104 ?_
  refine s_getfN G.b G.ow G.kn (va_Nw.use rfl (va_Nw.warmF G.warm (EN.nw q194 rfl))) (fun _ h => h) fa_5 dX0_account_107 ?_
  refine s_iload_n rfl G.b dX0_account_110 ?_
  refine s_iconst (by decide) G.b dX0_account_111 ?_
  refine s_isub G.b dX0_account_112 ?_
  refine s_aald G.b G.kn dX0_account_113 ?_
  refine s_callV G (mX3_endMany EN) q1810 q620 (sel_cons (r := (RX3, TX3, 3)) (by decide) rfl q621 (sel_nil)) q79 q622 nmk_27 (rm_of hF (Nat.le_of_ble_eq_true rfl) (Nat.le_of_ble_eq_true rfl)) dX0_account_114 ?_ (sx_out G (fun z hz => (hxt z hz).elim))
  exact s_goto (tgt := 222) G.b dX0_account_117 (by decide) (tX0_account_222 EN G hF hC hxt)
set_option maxHeartbeats 4000000 in
theorem tX0_account_83 {x : CX} {E : Nat → Value} {Q : Rs → HS → Prop} (EN : EX x E) (G : Gd x cX0_account "ChantRules" yX0_account 2 (Option.some Jvm.ClassFile.FieldType.int) Q) (hF : x.1.2.2.2.frames = 9 ∧ x.1.2.2.2.locals = 224) (hC : x.2.2.2.2.2 = (fun _ => false)) (hxt : (∀ z ∈ x.2.2.1.2.1.exceptionTable.toList, False)) : Snd x 83 (bX0_account_83 E Q) := by
  unfold bX0_account_83
  refine s_aload_n rfl G.b dX0_account_83 ?_
  refine s_getf G.b G.ow G.kn (G.hts _ q300) (fun _ h => h) fa_11 dX0_account_84 ?_
  refine s_getfN G.b G.ow G.kn (va_Nw.use rfl (va_Nw.warmF G.warm (EN.nw q194 rfl))) (fun _ h => h) fa_5 dX0_account_87 ?_
  refine s_iload_n rfl G.b dX0_account_90 ?_
  refine s_iconst (by decide) G.b dX0_account_91 ?_
  refine s_isub G.b dX0_account_92 ?_
  refine s_aald G.b G.kn dX0_account_93 ?_
  refine s_getfN G.b G.ow G.kn (va_Nw.use rfl (va_Nw.warmF G.warm (EN.nw q178 rfl))) (fun _ h => h) fa_3 dX0_account_94 ?_
  refine s_callV G (mJ2_size EN) q1809 q689 (sel_cons (r := (RJ2, TJ2, 3)) (by decide) rfl q690 (sel_nil)) q82 q691 nmk_28 (rm_of hF (Nat.le_of_ble_eq_true rfl) (Nat.le_of_ble_eq_true rfl)) dX0_account_97 ?_ (sx_out G (fun z hz => (hxt z hz).elim))
  exact s_goto (tgt := 222) G.b dX0_account_100 (by decide) (tX0_account_222 EN G hF hC hxt)
set_option maxHeartbeats 4000000 in
theorem tX0_account_68 {x : CX} {E : Nat → Value} {Q : Rs → HS → Prop} (EN : EX x E) (G : Gd x cX0_account "ChantRules" yX0_account 2 (Option.some Jvm.ClassFile.FieldType.int) Q) (hF : x.1.2.2.2.frames = 9 ∧ x.1.2.2.2.locals = 224) (hC : x.2.2.2.2.2 = (fun _ => false)) (hxt : (∀ z ∈ x.2.2.1.2.1.exceptionTable.toList, False)) : Snd x 68 (bX0_account_68 E Q) := by
  unfold bX0_account_68
  refine s_aload_n rfl G.b dX0_account_68 ?_
  refine s_getf G.b G.ow G.kn (G.hts _ q300) (fun _ h => h) fa_11 dX0_account_69 ?_
  refine s_getfN G.b G.ow G.kn (va_Nw.use rfl (va_Nw.warmF G.warm (EN.nw q194 rfl))) (fun _ h => h) fa_5 dX0_account_72 ?_
  refine s_iload_n rfl G.b dX0_account_75 ?_
  refine s_aald G.b G.kn dX0_account_76 ?_
  refine s_getfN G.b G.ow G.kn (va_Nw.use rfl (va_Nw.warmF G.warm (EN.nw q183 rfl))) (fun _ h => h) fa_4 dX0_account_77 ?_
  exact s_goto (tgt := 222) G.b dX0_account_80 (by decide) (tX0_account_222 EN G hF hC hxt)
set_option maxHeartbeats 4000000 in
theorem tX0_account_0 {x : CX} {E : Nat → Value} {Q : Rs → HS → Prop} (EN : EX x E) (G : Gd x cX0_account "ChantRules" yX0_account 2 (Option.some Jvm.ClassFile.FieldType.int) Q) (hF : x.1.2.2.2.frames = 9 ∧ x.1.2.2.2.locals = 224) (hC : x.2.2.2.2.2 = (fun _ => false)) (hxt : (∀ z ∈ x.2.2.1.2.1.exceptionTable.toList, False)) : Snd x 0 (bX0_account_0 E Q) := by
  unfold bX0_account_0
  refine s_iload_n rfl G.b dX0_account_0 ?_
  exact s_tsw (tD := 220) G.b dX0_account_1 (by decide) (tX0_account_220 EN G hF hC hxt) rfl (tsw_0 (tsw_cons (67) 68 (by decide) rfl (by decide) (tX0_account_68 EN G hF hC hxt) (tsw_cons (67) 68 (by decide) rfl (by decide) (tX0_account_68 EN G hF hC hxt) (tsw_cons (82) 83 (by decide) rfl (by decide) (tX0_account_83 EN G hF hC hxt) (tsw_cons (82) 83 (by decide) rfl (by decide) (tX0_account_83 EN G hF hC hxt) (tsw_cons (102) 103 (by decide) rfl (by decide) (tX0_account_103 EN G hF hC hxt) (tsw_cons (102) 103 (by decide) rfl (by decide) (tX0_account_103 EN G hF hC hxt) (tsw_cons (119) 120 (by decide) rfl (by decide) (tX0_account_120 EN G hF hC hxt) (tsw_cons (129) 130 (by decide) rfl (by decide) (tX0_account_130 EN G hF hC hxt) (tsw_cons (169) 170 (by decide) rfl (by decide) (tX0_account_170 EN G hF hC hxt) (tsw_cons (179) 180 (by decide) rfl (by decide) (tX0_account_180 EN G hF hC hxt) (tsw_cons (189) 190 (by decide) rfl (by decide) (tX0_account_190 EN G hF hC hxt) (tsw_cons (199) 200 (by decide) rfl (by decide) (tX0_account_200 EN G hF hC hxt) (tsw_cons (209) 210 (by decide) rfl (by decide) (tX0_account_210 EN G hF hC hxt) (tsw_nil)))))))))))))))
set_option maxHeartbeats 4000000 in
theorem mX0_account {l : Launch} {D : DE} {s0 : State} {E : Nat → Value} (EN : EV l D s0 E) : rMet l D s0 yX0_account (ws_ yX0_account cX0_account 2 (Option.some Jvm.ClassFile.FieldType.int)) 9 224 (wX0_account E) := by
  refine body_met (fun _ => false) EN.kn (fun w h => h) (by decide +kernel) rfl (fun av h Q hw => ?_) ?_
  · unfold wX0_account at hw
    split at hw
    · exact Nat.le_of_ble_eq_true rfl
    · exact hw.elim
  · intro p e s m below meth c av h Q hxt G hw
    unfold wX0_account at hw
    split at hw
    · exact tX0_account_0 EN G ⟨rfl, rfl⟩ rfl hxt _ _ _ hw
    · exact hw.elim
/-! ChantRules.isIn(III)Z (X0_isIn) -/
def bX0_isIn_15 (E : Nat → Value) (Q : Rs → HS → Prop) : Ct :=
  o_ireturn .boolean Q
def bX0_isIn_14 (E : Nat → Value) (Q : Rs → HS → Prop) : Ct :=
  o_push (.int 0) <|
  (bX0_isIn_15 E Q)
def bX0_isIn_0 (E : Nat → Value) (Q : Rs → HS → Prop) : Ct :=
  o_iload 0 <|
  o_iload 1 <|
  o_icmplt (bX0_isIn_14 E Q) <|
  o_iload 0 <|
  o_iload 2 <|
  o_icmpgt (bX0_isIn_14 E Q) <|
  o_push (.int 1) <|
  (bX0_isIn_15 E Q)
def wX0_isIn (E : Nat → Value) : Wp := fun av h Q => match av with
  | [a0, a1, a2] => bX0_isIn_0 E Q [a0, a1, a2] [] h
  | _ => False
set_option maxHeartbeats 4000000 in
theorem tX0_isIn_15 {x : CX} {E : Nat → Value} {Q : Rs → HS → Prop} (EN : EX x E) (G : Gd x cX0_isIn "ChantRules" yX0_isIn 3 (Option.some Jvm.ClassFile.FieldType.boolean) Q) (hF : x.1.2.2.2.frames = 2 ∧ x.1.2.2.2.locals = 64) (hC : x.2.2.2.2.2 = (fun _ => false)) (hxt : (∀ z ∈ x.2.2.1.2.1.exceptionTable.toList, False)) : Snd x 15 (bX0_isIn_15 E Q) := by
  unfold bX0_isIn_15
  exact s_ireturn G dX0_isIn_15
set_option maxHeartbeats 4000000 in
theorem tX0_isIn_14 {x : CX} {E : Nat → Value} {Q : Rs → HS → Prop} (EN : EX x E) (G : Gd x cX0_isIn "ChantRules" yX0_isIn 3 (Option.some Jvm.ClassFile.FieldType.boolean) Q) (hF : x.1.2.2.2.frames = 2 ∧ x.1.2.2.2.locals = 64) (hC : x.2.2.2.2.2 = (fun _ => false)) (hxt : (∀ z ∈ x.2.2.1.2.1.exceptionTable.toList, False)) : Snd x 14 (bX0_isIn_14 E Q) := by
  unfold bX0_isIn_14
  refine s_iconst (by decide) G.b dX0_isIn_14 ?_
  exact (tX0_isIn_15 EN G hF hC hxt)
set_option maxHeartbeats 4000000 in
theorem tX0_isIn_0 {x : CX} {E : Nat → Value} {Q : Rs → HS → Prop} (EN : EX x E) (G : Gd x cX0_isIn "ChantRules" yX0_isIn 3 (Option.some Jvm.ClassFile.FieldType.boolean) Q) (hF : x.1.2.2.2.frames = 2 ∧ x.1.2.2.2.locals = 64) (hC : x.2.2.2.2.2 = (fun _ => false)) (hxt : (∀ z ∈ x.2.2.1.2.1.exceptionTable.toList, False)) : Snd x 0 (bX0_isIn_0 E Q) := by
  unfold bX0_isIn_0
  refine s_iload_n rfl G.b dX0_isIn_0 ?_
  refine s_iload_n rfl G.b dX0_isIn_1 ?_
  refine s_icmplt (tgt := 14) G.b dX0_isIn_2 (by decide) (tX0_isIn_14 EN G hF hC hxt) ?_
  refine s_iload_n rfl G.b dX0_isIn_5 ?_
  refine s_iload_n rfl G.b dX0_isIn_6 ?_
  refine s_icmpgt (tgt := 14) G.b dX0_isIn_7 (by decide) (tX0_isIn_14 EN G hF hC hxt) ?_
  refine s_iconst (by decide) G.b dX0_isIn_10 ?_
  exact s_goto (tgt := 15) G.b dX0_isIn_11 (by decide) (tX0_isIn_15 EN G hF hC hxt)
set_option maxHeartbeats 4000000 in
theorem mX0_isIn {l : Launch} {D : DE} {s0 : State} {E : Nat → Value} (EN : EV l D s0 E) : rMet l D s0 yX0_isIn (ws_ yX0_isIn cX0_isIn 3 (Option.some Jvm.ClassFile.FieldType.boolean)) 2 64 (wX0_isIn E) := by
  refine body_met (fun _ => false) EN.kn (fun w h => h) (by decide +kernel) rfl (fun av h Q hw => ?_) ?_
  · unfold wX0_isIn at hw
    split at hw
    · exact Nat.le_of_ble_eq_true rfl
    · exact hw.elim
  · intro p e s m below meth c av h Q hxt G hw
    unfold wX0_isIn at hw
    split at hw
    · exact tX0_isIn_0 EN G ⟨rfl, rfl⟩ rfl hxt _ _ _ hw
    · exact hw.elim
/-! jdk/internal/util/ArraysSupport.hugeLength(II)I (J10_hugeLength) -/
def bJ10_hugeLength_58 (E : Nat → Value) (Q : Rs → HS → Prop) : Ct :=
  o_iload 2 <|
  o_ireturn .int Q
def bJ10_hugeLength_49 (E : Nat → Value) (Q : Rs → HS → Prop) : Ct :=
  o_iload 2 <|
  o_push (.int 2147483639) <|
  o_icmpgt (bJ10_hugeLength_58 E Q) <|
  o_push (.int 2147483639) <|
  o_ireturn .int Q
def bJ10_hugeLength_0 (E : Nat → Value) (Q : Rs → HS → Prop) : Ct :=
  o_iload 0 <|
  o_iload 1 <|
  o_iadd <|
  o_istore 2 <|
  o_iload 2 <|
  o_ifge (bJ10_hugeLength_49 E Q) <|
  o_no
def wJ10_hugeLength (E : Nat → Value) : Wp := fun av h Q => match av with
  | [a0, a1] => bJ10_hugeLength_0 E Q [a0, a1, jk] [] h
  | _ => False
set_option maxHeartbeats 4000000 in
theorem tJ10_hugeLength_58 {x : CX} {E : Nat → Value} {Q : Rs → HS → Prop} (EN : EX x E) (G : Gd x cJ10_hugeLength "jdk/internal/util/ArraysSupport" yJ10_hugeLength 3 (Option.some Jvm.ClassFile.FieldType.int) Q) (hF : x.1.2.2.2.frames = 2 ∧ x.1.2.2.2.locals = 64) (hC : x.2.2.2.2.2 = (fun _ => false)) (hxt : (∀ z ∈ x.2.2.1.2.1.exceptionTable.toList, False)) : Snd x 58 (bJ10_hugeLength_58 E Q) := by
  unfold bJ10_hugeLength_58
  refine s_iload_n rfl G.b dJ10_hugeLength_58 ?_
  exact s_ireturn G dJ10_hugeLength_59
set_option maxHeartbeats 4000000 in
theorem tJ10_hugeLength_49 {x : CX} {E : Nat → Value} {Q : Rs → HS → Prop} (EN : EX x E) (G : Gd x cJ10_hugeLength "jdk/internal/util/ArraysSupport" yJ10_hugeLength 3 (Option.some Jvm.ClassFile.FieldType.int) Q) (hF : x.1.2.2.2.frames = 2 ∧ x.1.2.2.2.locals = 64) (hC : x.2.2.2.2.2 = (fun _ => false)) (hxt : (∀ z ∈ x.2.2.1.2.1.exceptionTable.toList, False)) : Snd x 49 (bJ10_hugeLength_49 E Q) := by
  unfold bJ10_hugeLength_49
  refine s_iload_n rfl G.b dJ10_hugeLength_49 ?_
  refine s_ldcI G.b G.ow G.hts q425 dJ10_hugeLength_50 ?_
  refine s_icmpgt (tgt := 58) G.b dJ10_hugeLength_52 (by decide) (tJ10_hugeLength_58 EN G hF hC hxt) ?_
  refine s_ldcI G.b G.ow G.hts q425 dJ10_hugeLength_55 ?_
  exact s_ireturn G dJ10_hugeLength_57
set_option maxHeartbeats 4000000 in
theorem tJ10_hugeLength_0 {x : CX} {E : Nat → Value} {Q : Rs → HS → Prop} (EN : EX x E) (G : Gd x cJ10_hugeLength "jdk/internal/util/ArraysSupport" yJ10_hugeLength 3 (Option.some Jvm.ClassFile.FieldType.int) Q) (hF : x.1.2.2.2.frames = 2 ∧ x.1.2.2.2.locals = 64) (hC : x.2.2.2.2.2 = (fun _ => false)) (hxt : (∀ z ∈ x.2.2.1.2.1.exceptionTable.toList, False)) : Snd x 0 (bJ10_hugeLength_0 E Q) := by
  unfold bJ10_hugeLength_0
  refine s_iload_n rfl G.b dJ10_hugeLength_0 ?_
  refine s_iload_n rfl G.b dJ10_hugeLength_1 ?_
  refine s_iadd G.b dJ10_hugeLength_2 ?_
  refine s_istore_n rfl G.b (by rw [G.nl]; decide) (fun _ _ => by rw [hC]) dJ10_hugeLength_3 ?_
  refine s_iload_n rfl G.b dJ10_hugeLength_4 ?_
  refine s_ifge (tgt := 49) G.b dJ10_hugeLength_5 (by decide) (tJ10_hugeLength_49 EN G hF hC hxt) ?_
  exact s_no
set_option maxHeartbeats 4000000 in
theorem mJ10_hugeLength {l : Launch} {D : DE} {s0 : State} {E : Nat → Value} (EN : EV l D s0 E) : rMet l D s0 yJ10_hugeLength (ws_ yJ10_hugeLength cJ10_hugeLength 3 (Option.some Jvm.ClassFile.FieldType.int)) 2 64 (wJ10_hugeLength E) := by
  refine body_met (fun _ => false) EN.kn (fun w h => h) (by decide +kernel) rfl (fun av h Q hw => ?_) ?_
  · unfold wJ10_hugeLength at hw
    split at hw
    · exact Nat.le_of_ble_eq_true rfl
    · exact hw.elim
  · intro p e s m below meth c av h Q hxt G hw
    unfold wJ10_hugeLength at hw
    split at hw
    · exact tJ10_hugeLength_0 EN G ⟨rfl, rfl⟩ rfl hxt _ _ _ hw
    · exact hw.elim
/-! jdk/internal/util/ArraysSupport.newLength(III)I (J10_newLength) -/
theorem nmk_29 : nm_ok yJ10_hugeLength 2 := ⟨by decide +kernel, by decide +kernel, by decide +kernel⟩
def bJ10_newLength_21 (E : Nat → Value) (Q : Rs → HS → Prop) : Ct :=
  o_iload 0 <|
  o_iload 1 <|
  o_call 2 (wJ10_hugeLength E) (x_out Q) <|
  o_ireturn .int Q
def bJ10_newLength_0 (E : Nat → Value) (Q : Rs → HS → Prop) : Ct :=
  o_iload 0 <|
  o_iload 1 <|
  o_iload 2 <|
  o_imax <|
  o_iadd <|
  o_istore 3 <|
  o_push (.int 0) <|
  o_iload 3 <|
  o_icmpge (bJ10_newLength_21 E Q) <|
  o_iload 3 <|
  o_push (.int 2147483639) <|
  o_icmpgt (bJ10_newLength_21 E Q) <|
  o_iload 3 <|
  o_ireturn .int Q
def wJ10_newLength (E : Nat → Value) : Wp := fun av h Q => match av with
  | [a0, a1, a2] => bJ10_newLength_0 E Q [a0, a1, a2, jk] [] h
  | _ => False
set_option maxHeartbeats 4000000 in
theorem tJ10_newLength_21 {x : CX} {E : Nat → Value} {Q : Rs → HS → Prop} (EN : EX x E) (G : Gd x cJ10_newLength "jdk/internal/util/ArraysSupport" yJ10_newLength 4 (Option.some Jvm.ClassFile.FieldType.int) Q) (hF : x.1.2.2.2.frames = 3 ∧ x.1.2.2.2.locals = 86) (hC : x.2.2.2.2.2 = (fun _ => false)) (hxt : (∀ z ∈ x.2.2.1.2.1.exceptionTable.toList, False)) : Snd x 21 (bJ10_newLength_21 E Q) := by
  unfold bJ10_newLength_21
  refine s_iload_n rfl G.b dJ10_newLength_21 ?_
  refine s_iload_n rfl G.b dJ10_newLength_22 ?_
  refine s_callS G (mJ10_hugeLength EN) q426 q427 q92 q428 nmk_29 (rm_of hF (Nat.le_of_ble_eq_true rfl) (Nat.le_of_ble_eq_true rfl)) dJ10_newLength_23 ?_ (sx_out G (fun z hz => (hxt z hz).elim))
  exact s_ireturn G dJ10_newLength_26
set_option maxHeartbeats 4000000 in
theorem tJ10_newLength_0 {x : CX} {E : Nat → Value} {Q : Rs → HS → Prop} (EN : EX x E) (G : Gd x cJ10_newLength "jdk/internal/util/ArraysSupport" yJ10_newLength 4 (Option.some Jvm.ClassFile.FieldType.int) Q) (hF : x.1.2.2.2.frames = 3 ∧ x.1.2.2.2.locals = 86) (hC : x.2.2.2.2.2 = (fun _ => false)) (hxt : (∀ z ∈ x.2.2.1.2.1.exceptionTable.toList, False)) : Snd x 0 (bJ10_newLength_0 E Q) := by
  unfold bJ10_newLength_0
  refine s_iload_n rfl G.b dJ10_newLength_0 ?_
  refine s_iload_n rfl G.b dJ10_newLength_1 ?_
  refine s_iload_n rfl G.b dJ10_newLength_2 ?_
  refine s_imax G hF ⟨Nat.le_of_ble_eq_true rfl, Nat.le_of_ble_eq_true rfl⟩ q422 q423 q93 q424 dJ10_newLength_3 ?_
  refine s_iadd G.b dJ10_newLength_6 ?_
  refine s_istore_n rfl G.b (by rw [G.nl]; decide) (fun _ _ => by rw [hC]) dJ10_newLength_7 ?_
  refine s_iconst (by decide) G.b dJ10_newLength_8 ?_
  refine s_iload_n rfl G.b dJ10_newLength_9 ?_
  refine s_icmpge (tgt := 21) G.b dJ10_newLength_10 (by decide) (tJ10_newLength_21 EN G hF hC hxt) ?_
  refine s_iload_n rfl G.b dJ10_newLength_13 ?_
  refine s_ldcI G.b G.ow G.hts q425 dJ10_newLength_14 ?_
  refine s_icmpgt (tgt := 21) G.b dJ10_newLength_16 (by decide) (tJ10_newLength_21 EN G hF hC hxt) ?_
  refine s_iload_n rfl G.b dJ10_newLength_19 ?_
  exact s_ireturn G dJ10_newLength_20
set_option maxHeartbeats 4000000 in
theorem mJ10_newLength {l : Launch} {D : DE} {s0 : State} {E : Nat → Value} (EN : EV l D s0 E) : rMet l D s0 yJ10_newLength (ws_ yJ10_newLength cJ10_newLength 4 (Option.some Jvm.ClassFile.FieldType.int)) 3 86 (wJ10_newLength E) := by
  refine body_met (fun _ => false) EN.kn (fun w h => h) (by decide +kernel) rfl (fun av h Q hw => ?_) ?_
  · unfold wJ10_newLength at hw
    split at hw
    · exact Nat.le_of_ble_eq_true rfl
    · exact hw.elim
  · intro p e s m below meth c av h Q hxt G hw
    unfold wJ10_newLength at hw
    split at hw
    · exact tJ10_newLength_0 EN G ⟨rfl, rfl⟩ rfl hxt _ _ _ hw
    · exact hw.elim
/-! java/lang/AbstractStringBuilder.newCapacity(I)I (J4_newCapacity) -/
theorem nmk_30 : nm_ok yJ10_newLength 3 := ⟨by decide +kernel, by decide +kernel, by decide +kernel⟩
def bJ4_newCapacity_51 (E : Nat → Value) (Q : Rs → HS → Prop) : Ct :=
  o_iload 5 <|
  o_aload 0 <|
  o_getf [18] 1 <|
  o_ishr <|
  o_ireturn .int Q
def bJ4_newCapacity_0 (E : Nat → Value) (Q : Rs → HS → Prop) : Ct :=
  o_aload 0 <|
  o_getf [18] 0 <|
  o_alen <|
  o_istore 2 <|
  o_iload 1 <|
  o_aload 0 <|
  o_getf [18] 1 <|
  o_ishl <|
  o_istore 3 <|
  o_iload 3 <|
  o_iload 2 <|
  o_isub <|
  o_istore 4 <|
  o_iload 2 <|
  o_iload 4 <|
  o_iload 2 <|
  o_push (.int 2) <|
  o_aload 0 <|
  o_getf [18] 1 <|
  o_ishl <|
  o_iadd <|
  o_call 3 (wJ10_newLength E) (x_out Q) <|
  o_istore 5 <|
  o_iload 5 <|
  o_push (.int 2147483647) <|
  o_icmpne (bJ4_newCapacity_51 E Q) <|
  o_no
def wJ4_newCapacity (E : Nat → Value) : Wp := fun av h Q => match av with
  | [a0, a1] => bJ4_newCapacity_0 E Q [a0, a1, jk, jk, jk, jk] [] h
  | _ => False
set_option maxHeartbeats 4000000 in
theorem tJ4_newCapacity_51 {x : CX} {E : Nat → Value} {Q : Rs → HS → Prop} (EN : EX x E) (G : Gd x cJ4_newCapacity "java/lang/AbstractStringBuilder" yJ4_newCapacity 6 (Option.some Jvm.ClassFile.FieldType.int) Q) (hF : x.1.2.2.2.frames = 4 ∧ x.1.2.2.2.locals = 109) (hC : x.2.2.2.2.2 = (fun _ => false)) (hxt : (∀ z ∈ x.2.2.1.2.1.exceptionTable.toList, False)) : Snd x 51 (bJ4_newCapacity_51 E Q) := by
  unfold bJ4_newCapacity_51
  refine s_iload G.b dJ4_newCapacity_51 ?_
  refine s_aload_n rfl G.b dJ4_newCapacity_53 ?_
  refine s_getf G.b G.ow G.kn (G.hts _ q246) (fun _ h => h) fa_8 dJ4_newCapacity_54 ?_
  refine s_ishr G.b dJ4_newCapacity_57 ?_
  exact s_ireturn G dJ4_newCapacity_58
set_option maxHeartbeats 4000000 in
theorem tJ4_newCapacity_0 {x : CX} {E : Nat → Value} {Q : Rs → HS → Prop} (EN : EX x E) (G : Gd x cJ4_newCapacity "java/lang/AbstractStringBuilder" yJ4_newCapacity 6 (Option.some Jvm.ClassFile.FieldType.int) Q) (hF : x.1.2.2.2.frames = 4 ∧ x.1.2.2.2.locals = 109) (hC : x.2.2.2.2.2 = (fun _ => false)) (hxt : (∀ z ∈ x.2.2.1.2.1.exceptionTable.toList, False)) : Snd x 0 (bJ4_newCapacity_0 E Q) := by
  unfold bJ4_newCapacity_0
  refine s_aload_n rfl G.b dJ4_newCapacity_0 ?_
  refine s_getf G.b G.ow G.kn (G.hts _ q245) (fun _ h => h) fa_7 dJ4_newCapacity_1 ?_
  refine s_alen G.b G.kn dJ4_newCapacity_4 ?_
  refine s_istore_n rfl G.b (by rw [G.nl]; decide) (fun _ _ => by rw [hC]) dJ4_newCapacity_5 ?_
  refine s_iload_n rfl G.b dJ4_newCapacity_6 ?_
  refine s_aload_n rfl G.b dJ4_newCapacity_7 ?_
  refine s_getf G.b G.ow G.kn (G.hts _ q246) (fun _ h => h) fa_8 dJ4_newCapacity_8 ?_
  refine s_ishl G.b dJ4_newCapacity_11 ?_
  refine s_istore_n rfl G.b (by rw [G.nl]; decide) (fun _ _ => by rw [hC]) dJ4_newCapacity_12 ?_
  refine s_iload_n rfl G.b dJ4_newCapacity_13 ?_
  refine s_iload_n rfl G.b dJ4_newCapacity_14 ?_
  refine s_isub G.b dJ4_newCapacity_15 ?_
  refine s_istore G.b (by rw [G.nl]; decide) (fun _ _ => by rw [hC]) dJ4_newCapacity_16 ?_
  refine s_iload_n rfl G.b dJ4_newCapacity_18 ?_
  refine s_iload G.b dJ4_newCapacity_19 ?_
  refine s_iload_n rfl G.b dJ4_newCapacity_21 ?_
  refine s_iconst (by decide) G.b dJ4_newCapacity_22 ?_
  refine s_aload_n rfl G.b dJ4_newCapacity_23 ?_
  refine s_getf G.b G.ow G.kn (G.hts _ q246) (fun _ h => h) fa_8 dJ4_newCapacity_24 ?_
  refine s_ishl G.b dJ4_newCapacity_27 ?_
  refine s_iadd G.b dJ4_newCapacity_28 ?_
  refine s_callS G (mJ10_newLength EN) q1143 q420 q92 q421 nmk_30 (rm_of hF (Nat.le_of_ble_eq_true rfl) (Nat.le_of_ble_eq_true rfl)) dJ4_newCapacity_29 ?_ (sx_out G (fun z hz => (hxt z hz).elim))
  refine s_istore G.b (by rw [G.nl]; decide) (fun _ _ => by rw [hC]) dJ4_newCapacity_32 ?_
  refine s_iload G.b dJ4_newCapacity_34 ?_
  refine s_ldcI G.b G.ow G.hts q1144 dJ4_newCapacity_36 ?_
  refine s_icmpne (tgt := 51) G.b dJ4_newCapacity_38 (by decide) (tJ4_newCapacity_51 EN G hF hC hxt) ?_
  exact s_no
set_option maxHeartbeats 4000000 in
theorem mJ4_newCapacity {l : Launch} {D : DE} {s0 : State} {E : Nat → Value} (EN : EV l D s0 E) : rMet l D s0 yJ4_newCapacity (ws_ yJ4_newCapacity cJ4_newCapacity 6 (Option.some Jvm.ClassFile.FieldType.int)) 4 109 (wJ4_newCapacity E) := by
  refine body_met (fun _ => false) EN.kn (fun w h => h) (by decide +kernel) rfl (fun av h Q hw => ?_) ?_
  · unfold wJ4_newCapacity at hw
    split at hw
    · exact Nat.le_of_ble_eq_true rfl
    · exact hw.elim
  · intro p e s m below meth c av h Q hxt G hw
    unfold wJ4_newCapacity at hw
    split at hw
    · exact tJ4_newCapacity_0 EN G ⟨rfl, rfl⟩ rfl hxt _ _ _ hw
    · exact hw.elim
/-! java/util/Arrays.copyOf([BI)[B (J12_copyOf_3) -/
theorem ct_2 : ∀ c ∈ [102], (c, "[B") ∈ ctab := by decide +kernel
def bJ12_copyOf_3_14 (E : Nat → Value) (Q : Rs → HS → Prop) : Ct :=
  o_iload 1 <|
  o_newa 102 (.int 0) <|
  o_astore 2 <|
  o_aload 0 <|
  o_push (.int 0) <|
  o_aload 2 <|
  o_push (.int 0) <|
  o_aload 0 <|
  o_alen <|
  o_iload 1 <|
  o_imin <|
  o_acopy <|
  o_aload 2 <|
  o_areturn Q
def bJ12_copyOf_3_0 (E : Nat → Value) (Q : Rs → HS → Prop) : Ct :=
  o_iload 1 <|
  o_aload 0 <|
  o_alen <|
  o_icmpne (bJ12_copyOf_3_14 E Q) <|
  o_aload 0 <|
  o_clone 102 .byte <|
  o_cast [102] <|
  o_areturn Q
def wJ12_copyOf_3 (E : Nat → Value) : Wp := fun av h Q => match av with
  | [a0, a1] => bJ12_copyOf_3_0 E Q [a0, a1, jk] [] h
  | _ => False
set_option maxHeartbeats 4000000 in
theorem tJ12_copyOf_3_14 {x : CX} {E : Nat → Value} {Q : Rs → HS → Prop} (EN : EX x E) (G : Gd x cJ12_copyOf_3 "java/util/Arrays" yJ12_copyOf_3 3 (Option.some (Jvm.ClassFile.FieldType.array Jvm.ClassFile.FieldType.byte)) Q) (hF : x.1.2.2.2.frames = 8 ∧ x.1.2.2.2.locals = 200) (hC : x.2.2.2.2.2 = (fun _ => false)) (hxt : (∀ z ∈ x.2.2.1.2.1.exceptionTable.toList, False)) : Snd x 14 (bJ12_copyOf_3_14 E Q) := by
  unfold bJ12_copyOf_3_14
  refine s_iload_n rfl G.b dJ12_copyOf_3_14 ?_
  refine s_newa (atype := .byte) G.b G.kn G.gr G.hts q259 (by decide) (by decide) rfl (fun _ h => by cases h) (by decide) rfl dJ12_copyOf_3_15 ?_
  refine s_astore_n rfl G.b (by rw [G.nl]; decide) (fun _ _ => by rw [hC]) dJ12_copyOf_3_17 ?_
  refine s_aload_n rfl G.b dJ12_copyOf_3_18 ?_
  refine s_iconst (by decide) G.b dJ12_copyOf_3_19 ?_
  refine s_aload_n rfl G.b dJ12_copyOf_3_20 ?_
  refine s_iconst (by decide) G.b dJ12_copyOf_3_21 ?_
  refine s_aload_n rfl G.b dJ12_copyOf_3_22 ?_
  refine s_alen G.b G.kn dJ12_copyOf_3_23 ?_
  refine s_iload_n rfl G.b dJ12_copyOf_3_24 ?_
  refine s_imin G hF ⟨Nat.le_of_ble_eq_true rfl, Nat.le_of_ble_eq_true rfl⟩ q463 q464 q93 q465 dJ12_copyOf_3_25 ?_
  refine s_acopy EN G (rm_of hF (Nat.le_of_ble_eq_true rfl) (Nat.le_of_ble_eq_true rfl)) q466 dJ12_copyOf_3_28 ?_
  refine s_aload_n rfl G.b dJ12_copyOf_3_31 ?_
  exact s_areturn (Or.inr ⟨_, rfl⟩) G dJ12_copyOf_3_32
set_option maxHeartbeats 4000000 in
theorem tJ12_copyOf_3_0 {x : CX} {E : Nat → Value} {Q : Rs → HS → Prop} (EN : EX x E) (G : Gd x cJ12_copyOf_3 "java/util/Arrays" yJ12_copyOf_3 3 (Option.some (Jvm.ClassFile.FieldType.array Jvm.ClassFile.FieldType.byte)) Q) (hF : x.1.2.2.2.frames = 8 ∧ x.1.2.2.2.locals = 200) (hC : x.2.2.2.2.2 = (fun _ => false)) (hxt : (∀ z ∈ x.2.2.1.2.1.exceptionTable.toList, False)) : Snd x 0 (bJ12_copyOf_3_0 E Q) := by
  unfold bJ12_copyOf_3_0
  refine s_iload_n rfl G.b dJ12_copyOf_3_0 ?_
  refine s_aload_n rfl G.b dJ12_copyOf_3_1 ?_
  refine s_alen G.b G.kn dJ12_copyOf_3_2 ?_
  refine s_icmpne (tgt := 14) G.b dJ12_copyOf_3_3 (by decide) (tJ12_copyOf_3_14 EN G hF hC hxt) ?_
  refine s_aload_n rfl G.b dJ12_copyOf_3_6 ?_
  refine s_clone102 EN G (rm_of hF (Nat.le_of_ble_eq_true rfl) (Nat.le_of_ble_eq_true rfl)) q1148 dJ12_copyOf_3_7 ?_
  refine s_cast G.b G.ow G.kn G.hts q1152 ct_2 dJ12_copyOf_3_10 ?_
  exact s_areturn (Or.inr ⟨_, rfl⟩) G dJ12_copyOf_3_13
set_option maxHeartbeats 4000000 in
theorem mJ12_copyOf_3 {l : Launch} {D : DE} {s0 : State} {E : Nat → Value} (EN : EV l D s0 E) : rMet l D s0 yJ12_copyOf_3 (ws_ yJ12_copyOf_3 cJ12_copyOf_3 3 (Option.some (Jvm.ClassFile.FieldType.array Jvm.ClassFile.FieldType.byte))) 8 200 (wJ12_copyOf_3 E) := by
  refine body_met (fun _ => false) EN.kn (fun w h => h) (by decide +kernel) rfl (fun av h Q hw => ?_) ?_
  · unfold wJ12_copyOf_3 at hw
    split at hw
    · exact Nat.le_of_ble_eq_true rfl
    · exact hw.elim
  · intro p e s m below meth c av h Q hxt G hw
    unfold wJ12_copyOf_3 at hw
    split at hw
    · exact tJ12_copyOf_3_0 EN G ⟨rfl, rfl⟩ rfl hxt _ _ _ hw
    · exact hw.elim
/-! java/lang/AbstractStringBuilder.ensureCapacityInternal(I)V (J4_ensureCapacityInternal) -/
theorem nmk_31 : nm_ok yJ4_newCapacity 1 := ⟨by decide +kernel, by decide +kernel, by decide +kernel⟩
theorem nmk_32 : nm_ok yJ12_copyOf_3 2 := ⟨by decide +kernel, by decide +kernel, by decide +kernel⟩
def bJ4_ensureCapacityInternal_38 (E : Nat → Value) (Q : Rs → HS → Prop) : Ct :=
  o_return Q
def bJ4_ensureCapacityInternal_0 (E : Nat → Value) (Q : Rs → HS → Prop) : Ct :=
  o_aload 0 <|
  o_getf [18] 0 <|
  o_alen <|
  o_aload 0 <|
  o_getf [18] 1 <|
  o_ishr <|
  o_istore 2 <|
  o_iload 1 <|
  o_iload 2 <|
  o_isub <|
  o_ifle (bJ4_ensureCapacityInternal_38 E Q) <|
  o_aload 0 <|
  o_aload 0 <|
  o_getf [18] 0 <|
  o_aload 0 <|
  o_iload 1 <|
  o_callV [18] 2 (wJ4_newCapacity E) (x_out Q) <|
  o_aload 0 <|
  o_getf [18] 1 <|
  o_ishl <|
  o_call 2 (wJ12_copyOf_3 E) (x_out Q) <|
  o_putf [18] 0 (.array .byte) <|
  (bJ4_ensureCapacityInternal_38 E Q)
def wJ4_ensureCapacityInternal (E : Nat → Value) : Wp := fun av h Q => match av with
  | [a0, a1] => bJ4_ensureCapacityInternal_0 E Q [a0, a1, jk] [] h
  | _ => False
set_option maxHeartbeats 4000000 in
theorem tJ4_ensureCapacityInternal_38 {x : CX} {E : Nat → Value} {Q : Rs → HS → Prop} (EN : EX x E) (G : Gd x cJ4_ensureCapacityInternal "java/lang/AbstractStringBuilder" yJ4_ensureCapacityInternal 3 (Option.none : Option Jvm.ClassFile.FieldType) Q) (hF : x.1.2.2.2.frames = 9 ∧ x.1.2.2.2.locals = 222) (hC : x.2.2.2.2.2 = (fun _ => false)) (hxt : (∀ z ∈ x.2.2.1.2.1.exceptionTable.toList, False)) : Snd x 38 (bJ4_ensureCapacityInternal_38 E Q) := by
  unfold bJ4_ensureCapacityInternal_38
  exact s_return G dJ4_ensureCapacityInternal_38
set_option maxHeartbeats 4000000 in
theorem tJ4_ensureCapacityInternal_0 {x : CX} {E : Nat → Value} {Q : Rs → HS → Prop} (EN : EX x E) (G : Gd x cJ4_ensureCapacityInternal "java/lang/AbstractStringBuilder" yJ4_ensureCapacityInternal 3 (Option.none : Option Jvm.ClassFile.FieldType) Q) (hF : x.1.2.2.2.frames = 9 ∧ x.1.2.2.2.locals = 222) (hC : x.2.2.2.2.2 = (fun _ => false)) (hxt : (∀ z ∈ x.2.2.1.2.1.exceptionTable.toList, False)) : Snd x 0 (bJ4_ensureCapacityInternal_0 E Q) := by
  unfold bJ4_ensureCapacityInternal_0
  refine s_aload_n rfl G.b dJ4_ensureCapacityInternal_0 ?_
  refine s_getf G.b G.ow G.kn (G.hts _ q245) (fun _ h => h) fa_7 dJ4_ensureCapacityInternal_1 ?_
  refine s_alen G.b G.kn dJ4_ensureCapacityInternal_4 ?_
  refine s_aload_n rfl G.b dJ4_ensureCapacityInternal_5 ?_
  refine s_getf G.b G.ow G.kn (G.hts _ q246) (fun _ h => h) fa_8 dJ4_ensureCapacityInternal_6 ?_
  refine s_ishr G.b dJ4_ensureCapacityInternal_9 ?_
  refine s_istore_n rfl G.b (by rw [G.nl]; decide) (fun _ _ => by rw [hC]) dJ4_ensureCapacityInternal_10 ?_
  refine s_iload_n rfl G.b dJ4_ensureCapacityInternal_11 ?_
  refine s_iload_n rfl G.b dJ4_ensureCapacityInternal_12 ?_
  refine s_isub G.b dJ4_ensureCapacityInternal_13 ?_
  refine s_ifle (tgt := 38) G.b dJ4_ensureCapacityInternal_14 (by decide) (tJ4_ensureCapacityInternal_38 EN G hF hC hxt) ?_
  refine s_aload_n rfl G.b dJ4_ensureCapacityInternal_17 ?_
  refine s_aload_n rfl G.b dJ4_ensureCapacityInternal_18 ?_
  refine s_getf G.b G.ow G.kn (G.hts _ q245) (fun _ h => h) fa_7 dJ4_ensureCapacityInternal_19 ?_
  refine s_aload_n rfl G.b dJ4_ensureCapacityInternal_22 ?_
  refine s_iload_n rfl G.b dJ4_ensureCapacityInternal_23 ?_
  refine s_callVP EN (by decide) G (mJ4_newCapacity EN) q1139 q1140 q1141 q2348 q84 q1142 nmk_31 (rm_of hF (Nat.le_of_ble_eq_true rfl) (Nat.le_of_ble_eq_true rfl)) dJ4_ensureCapacityInternal_24 ?_ (sx_out G (fun z hz => (hxt z hz).elim))
  refine s_aload_n rfl G.b dJ4_ensureCapacityInternal_27 ?_
  refine s_getf G.b G.ow G.kn (G.hts _ q246) (fun _ h => h) fa_8 dJ4_ensureCapacityInternal_28 ?_
  refine s_ishl G.b dJ4_ensureCapacityInternal_31 ?_
  refine s_callS G (mJ12_copyOf_3 EN) q1145 q1146 q94 q1147 nmk_32 (rm_of hF (Nat.le_of_ble_eq_true rfl) (Nat.le_of_ble_eq_true rfl)) dJ4_ensureCapacityInternal_32 ?_ (sx_out G (fun z hz => (hxt z hz).elim))
  refine s_putf G.b G.ow G.kn (G.hts _ q245) (fun _ h => h) fa_7 (la_cons (r := (RJ5, TJ5, 4)) G.hts (by decide) rfl q250 (la_nil)) (by decide +kernel) dJ4_ensureCapacityInternal_35 ?_
  exact (tJ4_ensureCapacityInternal_38 EN G hF hC hxt)
set_option maxHeartbeats 4000000 in
theorem mJ4_ensureCapacityInternal {l : Launch} {D : DE} {s0 : State} {E : Nat → Value} (EN : EV l D s0 E) : rMet l D s0 yJ4_ensureCapacityInternal (ws_ yJ4_ensureCapacityInternal cJ4_ensureCapacityInternal 3 (Option.none : Option Jvm.ClassFile.FieldType)) 9 222 (wJ4_ensureCapacityInternal E) := by
  refine body_met (fun _ => false) EN.kn (fun w h => h) (by decide +kernel) rfl (fun av h Q hw => ?_) ?_
  · unfold wJ4_ensureCapacityInternal at hw
    split at hw
    · exact Nat.le_of_ble_eq_true rfl
    · exact hw.elim
  · intro p e s m below meth c av h Q hxt G hw
    unfold wJ4_ensureCapacityInternal at hw
    split at hw
    · exact tJ4_ensureCapacityInternal_0 EN G ⟨rfl, rfl⟩ rfl hxt _ _ _ hw
    · exact hw.elim
/-! java/lang/AbstractStringBuilder.isLatin1()Z (J4_isLatin1) -/
def bJ4_isLatin1_18 (E : Nat → Value) (Q : Rs → HS → Prop) : Ct :=
  o_ireturn .boolean Q
def bJ4_isLatin1_17 (E : Nat → Value) (Q : Rs → HS → Prop) : Ct :=
  o_push (.int 0) <|
  (bJ4_isLatin1_18 E Q)
def bJ4_isLatin1_0 (E : Nat → Value) (Q : Rs → HS → Prop) : Ct :=
  o_push (E 8) <|
  o_ifeq (bJ4_isLatin1_17 E Q) <|
  o_aload 0 <|
  o_getf [18] 1 <|
  o_ifne (bJ4_isLatin1_17 E Q) <|
  o_push (.int 1) <|
  (bJ4_isLatin1_18 E Q)
def wJ4_isLatin1 (E : Nat → Value) : Wp := fun av h Q => match av with
  | [a0] => bJ4_isLatin1_0 E Q [a0] [] h
  | _ => False
set_option maxHeartbeats 4000000 in
theorem tJ4_isLatin1_18 {x : CX} {E : Nat → Value} {Q : Rs → HS → Prop} (EN : EX x E) (G : Gd x cJ4_isLatin1 "java/lang/AbstractStringBuilder" yJ4_isLatin1 1 (Option.some Jvm.ClassFile.FieldType.boolean) Q) (hF : x.1.2.2.2.frames = 2 ∧ x.1.2.2.2.locals = 64) (hC : x.2.2.2.2.2 = (fun _ => false)) (hxt : (∀ z ∈ x.2.2.1.2.1.exceptionTable.toList, False)) : Snd x 18 (bJ4_isLatin1_18 E Q) := by
  unfold bJ4_isLatin1_18
  exact s_ireturn G dJ4_isLatin1_18
set_option maxHeartbeats 4000000 in
theorem tJ4_isLatin1_17 {x : CX} {E : Nat → Value} {Q : Rs → HS → Prop} (EN : EX x E) (G : Gd x cJ4_isLatin1 "java/lang/AbstractStringBuilder" yJ4_isLatin1 1 (Option.some Jvm.ClassFile.FieldType.boolean) Q) (hF : x.1.2.2.2.frames = 2 ∧ x.1.2.2.2.locals = 64) (hC : x.2.2.2.2.2 = (fun _ => false)) (hxt : (∀ z ∈ x.2.2.1.2.1.exceptionTable.toList, False)) : Snd x 17 (bJ4_isLatin1_17 E Q) := by
  unfold bJ4_isLatin1_17
  refine s_iconst (by decide) G.b dJ4_isLatin1_17 ?_
  exact (tJ4_isLatin1_18 EN G hF hC hxt)
set_option maxHeartbeats 4000000 in
theorem tJ4_isLatin1_0 {x : CX} {E : Nat → Value} {Q : Rs → HS → Prop} (EN : EX x E) (G : Gd x cJ4_isLatin1 "java/lang/AbstractStringBuilder" yJ4_isLatin1 1 (Option.some Jvm.ClassFile.FieldType.boolean) Q) (hF : x.1.2.2.2.frames = 2 ∧ x.1.2.2.2.locals = 64) (hC : x.2.2.2.2.2 = (fun _ => false)) (hxt : (∀ z ∈ x.2.2.1.2.1.exceptionTable.toList, False)) : Snd x 0 (bJ4_isLatin1_0 E Q) := by
  unfold bJ4_isLatin1_0
  refine s_getst EN G q236 (i := 8) rfl dJ4_isLatin1_0 ?_
  refine s_ifeq (tgt := 17) G.b dJ4_isLatin1_3 (by decide) (tJ4_isLatin1_17 EN G hF hC hxt) ?_
  refine s_aload_n rfl G.b dJ4_isLatin1_6 ?_
  refine s_getf G.b G.ow G.kn (G.hts _ q246) (fun _ h => h) fa_8 dJ4_isLatin1_7 ?_
  refine s_ifne (tgt := 17) G.b dJ4_isLatin1_10 (by decide) (tJ4_isLatin1_17 EN G hF hC hxt) ?_
  refine s_iconst (by decide) G.b dJ4_isLatin1_13 ?_
  exact s_goto (tgt := 18) G.b dJ4_isLatin1_14 (by decide) (tJ4_isLatin1_18 EN G hF hC hxt)
set_option maxHeartbeats 4000000 in
theorem mJ4_isLatin1 {l : Launch} {D : DE} {s0 : State} {E : Nat → Value} (EN : EV l D s0 E) : rMet l D s0 yJ4_isLatin1 (ws_ yJ4_isLatin1 cJ4_isLatin1 1 (Option.some Jvm.ClassFile.FieldType.boolean)) 2 64 (wJ4_isLatin1 E) := by
  refine body_met (fun _ => false) EN.kn (fun w h => h) (by decide +kernel) rfl (fun av h Q hw => ?_) ?_
  · unfold wJ4_isLatin1 at hw
    split at hw
    · exact Nat.le_of_ble_eq_true rfl
    · exact hw.elim
  · intro p e s m below meth c av h Q hxt G hw
    unfold wJ4_isLatin1 at hw
    split at hw
    · exact tJ4_isLatin1_0 EN G ⟨rfl, rfl⟩ rfl hxt _ _ _ hw
    · exact hw.elim
/-! jdk/internal/util/Preconditions.checkFromIndexSize(IIILjava/util/function/BiFunction;)I (J16_checkFromIndexSize) -/
def bJ16_checkFromIndexSize_23 (E : Nat → Value) (Q : Rs → HS → Prop) : Ct :=
  o_iload 0 <|
  o_ireturn .int Q
def bJ16_checkFromIndexSize_15 (E : Nat → Value) (Q : Rs → HS → Prop) : Ct :=
  o_aload 3 <|
  o_iload 0 <|
  o_iload 1 <|
  o_iload 2 <|
  o_no
def bJ16_checkFromIndexSize_0 (E : Nat → Value) (Q : Rs → HS → Prop) : Ct :=
  o_iload 2 <|
  o_iload 0 <|
  o_ior <|
  o_iload 1 <|
  o_ior <|
  o_iflt (bJ16_checkFromIndexSize_15 E Q) <|
  o_iload 1 <|
  o_iload 2 <|
  o_iload 0 <|
  o_isub <|
  o_icmple (bJ16_checkFromIndexSize_23 E Q) <|
  (bJ16_checkFromIndexSize_15 E Q)
def wJ16_checkFromIndexSize (E : Nat → Value) : Wp := fun av h Q => match av with
  | [a0, a1, a2, a3] => bJ16_checkFromIndexSize_0 E Q [a0, a1, a2, a3] [] h
  | _ => False
set_option maxHeartbeats 4000000 in
theorem tJ16_checkFromIndexSize_23 {x : CX} {E : Nat → Value} {Q : Rs → HS → Prop} (EN : EX x E) (G : Gd x cJ16_checkFromIndexSize "jdk/internal/util/Preconditions" yJ16_checkFromIndexSize 4 (Option.some Jvm.ClassFile.FieldType.int) Q) (hF : x.1.2.2.2.frames = 2 ∧ x.1.2.2.2.locals = 64) (hC : x.2.2.2.2.2 = (fun _ => false)) (hxt : (∀ z ∈ x.2.2.1.2.1.exceptionTable.toList, False)) : Snd x 23 (bJ16_checkFromIndexSize_23 E Q) := by
  unfold bJ16_checkFromIndexSize_23
  refine s_iload_n rfl G.b dJ16_checkFromIndexSize_23 ?_
  exact s_ireturn G dJ16_checkFromIndexSize_24
set_option maxHeartbeats 4000000 in
theorem tJ16_checkFromIndexSize_15 {x : CX} {E : Nat → Value} {Q : Rs → HS → Prop} (EN : EX x E) (G : Gd x cJ16_checkFromIndexSize "jdk/internal/util/Preconditions" yJ16_checkFromIndexSize 4 (Option.some Jvm.ClassFile.FieldType.int) Q) (hF : x.1.2.2.2.frames = 2 ∧ x.1.2.2.2.locals = 64) (hC : x.2.2.2.2.2 = (fun _ => false)) (hxt : (∀ z ∈ x.2.2.1.2.1.exceptionTable.toList, False)) : Snd x 15 (bJ16_checkFromIndexSize_15 E Q) := by
  unfold bJ16_checkFromIndexSize_15
  refine s_aload_n rfl G.b dJ16_checkFromIndexSize_15 ?_
  refine s_iload_n rfl G.b dJ16_checkFromIndexSize_16 ?_
  refine s_iload_n rfl G.b dJ16_checkFromIndexSize_17 ?_
  refine s_iload_n rfl G.b dJ16_checkFromIndexSize_18 ?_
  exact s_no
set_option maxHeartbeats 4000000 in
theorem tJ16_checkFromIndexSize_0 {x : CX} {E : Nat → Value} {Q : Rs → HS → Prop} (EN : EX x E) (G : Gd x cJ16_checkFromIndexSize "jdk/internal/util/Preconditions" yJ16_checkFromIndexSize 4 (Option.some Jvm.ClassFile.FieldType.int) Q) (hF : x.1.2.2.2.frames = 2 ∧ x.1.2.2.2.locals = 64) (hC : x.2.2.2.2.2 = (fun _ => false)) (hxt : (∀ z ∈ x.2.2.1.2.1.exceptionTable.toList, False)) : Snd x 0 (bJ16_checkFromIndexSize_0 E Q) := by
  unfold bJ16_checkFromIndexSize_0
  refine s_iload_n rfl G.b dJ16_checkFromIndexSize_0 ?_
  refine s_iload_n rfl G.b dJ16_checkFromIndexSize_1 ?_
  refine s_ior G.b dJ16_checkFromIndexSize_2 ?_
  refine s_iload_n rfl G.b dJ16_checkFromIndexSize_3 ?_
  refine s_ior G.b dJ16_checkFromIndexSize_4 ?_
  refine s_iflt (tgt := 15) G.b dJ16_checkFromIndexSize_5 (by decide) (tJ16_checkFromIndexSize_15 EN G hF hC hxt) ?_
  refine s_iload_n rfl G.b dJ16_checkFromIndexSize_8 ?_
  refine s_iload_n rfl G.b dJ16_checkFromIndexSize_9 ?_
  refine s_iload_n rfl G.b dJ16_checkFromIndexSize_10 ?_
  refine s_isub G.b dJ16_checkFromIndexSize_11 ?_
  refine s_icmple (tgt := 23) G.b dJ16_checkFromIndexSize_12 (by decide) (tJ16_checkFromIndexSize_23 EN G hF hC hxt) ?_
  exact (tJ16_checkFromIndexSize_15 EN G hF hC hxt)
set_option maxHeartbeats 4000000 in
theorem mJ16_checkFromIndexSize {l : Launch} {D : DE} {s0 : State} {E : Nat → Value} (EN : EV l D s0 E) : rMet l D s0 yJ16_checkFromIndexSize (ws_ yJ16_checkFromIndexSize cJ16_checkFromIndexSize 4 (Option.some Jvm.ClassFile.FieldType.int)) 2 64 (wJ16_checkFromIndexSize E) := by
  refine body_met (fun _ => false) EN.kn (fun w h => h) (by decide +kernel) rfl (fun av h Q hw => ?_) ?_
  · unfold wJ16_checkFromIndexSize at hw
    split at hw
    · exact Nat.le_of_ble_eq_true rfl
    · exact hw.elim
  · intro p e s m below meth c av h Q hxt G hw
    unfold wJ16_checkFromIndexSize at hw
    split at hw
    · exact tJ16_checkFromIndexSize_0 EN G ⟨rfl, rfl⟩ rfl hxt _ _ _ hw
    · exact hw.elim
/-! java/lang/String.checkBoundsOffCount(III)I (J6_checkBoundsOffCount) -/
theorem nmk_33 : nm_ok yJ16_checkFromIndexSize 4 := ⟨by decide +kernel, by decide +kernel, by decide +kernel⟩
def bJ6_checkBoundsOffCount_0 (E : Nat → Value) (Q : Rs → HS → Prop) : Ct :=
  o_iload 0 <|
  o_iload 1 <|
  o_iload 2 <|
  o_push (E 16) <|
  o_call 4 (wJ16_checkFromIndexSize E) (x_out Q) <|
  o_ireturn .int Q
def wJ6_checkBoundsOffCount (E : Nat → Value) : Wp := fun av h Q => match av with
  | [a0, a1, a2] => bJ6_checkBoundsOffCount_0 E Q [a0, a1, a2] [] h
  | _ => False
set_option maxHeartbeats 4000000 in
theorem tJ6_checkBoundsOffCount_0 {x : CX} {E : Nat → Value} {Q : Rs → HS → Prop} (EN : EX x E) (G : Gd x cJ6_checkBoundsOffCount "java/lang/String" yJ6_checkBoundsOffCount 3 (Option.some Jvm.ClassFile.FieldType.int) Q) (hF : x.1.2.2.2.frames = 3 ∧ x.1.2.2.2.locals = 87) (hC : x.2.2.2.2.2 = (fun _ => false)) (hxt : (∀ z ∈ x.2.2.1.2.1.exceptionTable.toList, False)) : Snd x 0 (bJ6_checkBoundsOffCount_0 E Q) := by
  unfold bJ6_checkBoundsOffCount_0
  refine s_iload_n rfl G.b dJ6_checkBoundsOffCount_0 ?_
  refine s_iload_n rfl G.b dJ6_checkBoundsOffCount_1 ?_
  refine s_iload_n rfl G.b dJ6_checkBoundsOffCount_2 ?_
  refine s_getst EN G q954 (i := 16) rfl dJ6_checkBoundsOffCount_3 ?_
  refine s_callS G (mJ16_checkFromIndexSize EN) q1177 q1178 q102 q1179 nmk_33 (rm_of hF (Nat.le_of_ble_eq_true rfl) (Nat.le_of_ble_eq_true rfl)) dJ6_checkBoundsOffCount_6 ?_ (sx_out G (fun z hz => (hxt z hz).elim))
  exact s_ireturn G dJ6_checkBoundsOffCount_9
set_option maxHeartbeats 4000000 in
theorem mJ6_checkBoundsOffCount {l : Launch} {D : DE} {s0 : State} {E : Nat → Value} (EN : EV l D s0 E) : rMet l D s0 yJ6_checkBoundsOffCount (ws_ yJ6_checkBoundsOffCount cJ6_checkBoundsOffCount 3 (Option.some Jvm.ClassFile.FieldType.int)) 3 87 (wJ6_checkBoundsOffCount E) := by
  refine body_met (fun _ => false) EN.kn (fun w h => h) (by decide +kernel) rfl (fun av h Q hw => ?_) ?_
  · unfold wJ6_checkBoundsOffCount at hw
    split at hw
    · exact Nat.le_of_ble_eq_true rfl
    · exact hw.elim
  · intro p e s m below meth c av h Q hxt G hw
    unfold wJ6_checkBoundsOffCount at hw
    split at hw
    · exact tJ6_checkBoundsOffCount_0 EN G ⟨rfl, rfl⟩ rfl hxt _ _ _ hw
    · exact hw.elim
/-! java/lang/StringUTF16.length([B)I (J7_length) -/
def bJ7_length_0 (E : Nat → Value) (Q : Rs → HS → Prop) : Ct :=
  o_aload 0 <|
  o_alen <|
  o_push (.int 1) <|
  o_ishr <|
  o_ireturn .int Q
def wJ7_length (E : Nat → Value) : Wp := fun av h Q => match av with
  | [a0] => bJ7_length_0 E Q [a0] [] h
  | _ => False
set_option maxHeartbeats 4000000 in
theorem tJ7_length_0 {x : CX} {E : Nat → Value} {Q : Rs → HS → Prop} (EN : EX x E) (G : Gd x cJ7_length "java/lang/StringUTF16" yJ7_length 1 (Option.some Jvm.ClassFile.FieldType.int) Q) (hF : x.1.2.2.2.frames = 2 ∧ x.1.2.2.2.locals = 64) (hC : x.2.2.2.2.2 = (fun _ => false)) (hxt : (∀ z ∈ x.2.2.1.2.1.exceptionTable.toList, False)) : Snd x 0 (bJ7_length_0 E Q) := by
  unfold bJ7_length_0
  refine s_aload_n rfl G.b dJ7_length_0 ?_
  refine s_alen G.b G.kn dJ7_length_1 ?_
  refine s_iconst (by decide) G.b dJ7_length_2 ?_
  refine s_ishr G.b dJ7_length_3 ?_
  exact s_ireturn G dJ7_length_4
set_option maxHeartbeats 4000000 in
theorem mJ7_length {l : Launch} {D : DE} {s0 : State} {E : Nat → Value} (EN : EV l D s0 E) : rMet l D s0 yJ7_length (ws_ yJ7_length cJ7_length 1 (Option.some Jvm.ClassFile.FieldType.int)) 2 64 (wJ7_length E) := by
  refine body_met (fun _ => false) EN.kn (fun w h => h) (by decide +kernel) rfl (fun av h Q hw => ?_) ?_
  · unfold wJ7_length at hw
    split at hw
    · exact Nat.le_of_ble_eq_true rfl
    · exact hw.elim
  · intro p e s m below meth c av h Q hxt G hw
    unfold wJ7_length at hw
    split at hw
    · exact tJ7_length_0 EN G ⟨rfl, rfl⟩ rfl hxt _ _ _ hw
    · exact hw.elim
/-! java/lang/StringUTF16.checkBoundsOffCount(II[B)V (J7_checkBoundsOffCount) -/
theorem nmk_34 : nm_ok yJ7_length 1 := ⟨by decide +kernel, by decide +kernel, by decide +kernel⟩
theorem nmk_35 : nm_ok yJ6_checkBoundsOffCount 3 := ⟨by decide +kernel, by decide +kernel, by decide +kernel⟩
def bJ7_checkBoundsOffCount_0 (E : Nat → Value) (Q : Rs → HS → Prop) : Ct :=
  o_iload 0 <|
  o_iload 1 <|
  o_aload 2 <|
  o_call 1 (wJ7_length E) (x_out Q) <|
  o_call 3 (wJ6_checkBoundsOffCount E) (x_out Q) <|
  o_pop <|
  o_return Q
def wJ7_checkBoundsOffCount (E : Nat → Value) : Wp := fun av h Q => match av with
  | [a0, a1, a2] => bJ7_checkBoundsOffCount_0 E Q [a0, a1, a2] [] h
  | _ => False
set_option maxHeartbeats 4000000 in
theorem tJ7_checkBoundsOffCount_0 {x : CX} {E : Nat → Value} {Q : Rs → HS → Prop} (EN : EX x E) (G : Gd x cJ7_checkBoundsOffCount "java/lang/StringUTF16" yJ7_checkBoundsOffCount 3 (Option.none : Option Jvm.ClassFile.FieldType) Q) (hF : x.1.2.2.2.frames = 4 ∧ x.1.2.2.2.locals = 109) (hC : x.2.2.2.2.2 = (fun _ => false)) (hxt : (∀ z ∈ x.2.2.1.2.1.exceptionTable.toList, False)) : Snd x 0 (bJ7_checkBoundsOffCount_0 E Q) := by
  unfold bJ7_checkBoundsOffCount_0
  refine s_iload_n rfl G.b dJ7_checkBoundsOffCount_0 ?_
  refine s_iload_n rfl G.b dJ7_checkBoundsOffCount_1 ?_
  refine s_aload_n rfl G.b dJ7_checkBoundsOffCount_2 ?_
  refine s_callS G (mJ7_length EN) q962 q963 q87 q964 nmk_34 (rm_of hF (Nat.le_of_ble_eq_true rfl) (Nat.le_of_ble_eq_true rfl)) dJ7_checkBoundsOffCount_3 ?_ (sx_out G (fun z hz => (hxt z hz).elim))
  refine s_callS G (mJ6_checkBoundsOffCount EN) q1174 q1175 q86 q1176 nmk_35 (rm_of hF (Nat.le_of_ble_eq_true rfl) (Nat.le_of_ble_eq_true rfl)) dJ7_checkBoundsOffCount_6 ?_ (sx_out G (fun z hz => (hxt z hz).elim))
  refine s_pop G.b dJ7_checkBoundsOffCount_9 ?_
  exact s_return G dJ7_checkBoundsOffCount_10
set_option maxHeartbeats 4000000 in
theorem mJ7_checkBoundsOffCount {l : Launch} {D : DE} {s0 : State} {E : Nat → Value} (EN : EV l D s0 E) : rMet l D s0 yJ7_checkBoundsOffCount (ws_ yJ7_checkBoundsOffCount cJ7_checkBoundsOffCount 3 (Option.none : Option Jvm.ClassFile.FieldType)) 4 109 (wJ7_checkBoundsOffCount E) := by
  refine body_met (fun _ => false) EN.kn (fun w h => h) (by decide +kernel) rfl (fun av h Q hw => ?_) ?_
  · unfold wJ7_checkBoundsOffCount at hw
    split at hw
    · exact Nat.le_of_ble_eq_true rfl
    · exact hw.elim
  · intro p e s m below meth c av h Q hxt G hw
    unfold wJ7_checkBoundsOffCount at hw
    split at hw
    · exact tJ7_checkBoundsOffCount_0 EN G ⟨rfl, rfl⟩ rfl hxt _ _ _ hw
    · exact hw.elim
/-! java/lang/StringUTF16.putChar([BII)V (J7_putChar) -/
def bJ7_putChar_28 (E : Nat → Value) (Q : Rs → HS → Prop) : Ct :=
  o_iload 1 <|
  o_push (.int 1) <|
  o_ishl <|
  o_istore 1 <|
  o_aload 0 <|
  o_iload 1 <|
  o_iinc 1 1 <|
  o_iload 2 <|
  o_push (E 10) <|
  o_ishr <|
  o_i2b <|
  o_ast [(101, .boolean), (102, .byte)] <|
  o_aload 0 <|
  o_iload 1 <|
  o_iload 2 <|
  o_push (E 11) <|
  o_ishr <|
  o_i2b <|
  o_ast [(101, .boolean), (102, .byte)] <|
  o_return Q
def bJ7_putChar_18 (E : Nat → Value) (Q : Rs → HS → Prop) : Ct :=
  o_no
def bJ7_putChar_0 (E : Nat → Value) (Q : Rs → HS → Prop) : Ct :=
  o_push (E 9) <|
  o_ifne (bJ7_putChar_28 E Q) <|
  o_iload 1 <|
  o_iflt (bJ7_putChar_18 E Q) <|
  o_iload 1 <|
  o_aload 0 <|
  o_call 1 (wJ7_length E) (x_out Q) <|
  o_icmplt (bJ7_putChar_28 E Q) <|
  (bJ7_putChar_18 E Q)
def wJ7_putChar (E : Nat → Value) : Wp := fun av h Q => match av with
  | [a0, a1, a2] => bJ7_putChar_0 E Q [a0, a1, a2] [] h
  | _ => False
set_option maxHeartbeats 4000000 in
theorem tJ7_putChar_28 {x : CX} {E : Nat → Value} {Q : Rs → HS → Prop} (EN : EX x E) (G : Gd x cJ7_putChar "java/lang/StringUTF16" yJ7_putChar 3 (Option.none : Option Jvm.ClassFile.FieldType) Q) (hF : x.1.2.2.2.frames = 3 ∧ x.1.2.2.2.locals = 84) (hC : x.2.2.2.2.2 = (fun _ => false)) (hxt : (∀ z ∈ x.2.2.1.2.1.exceptionTable.toList, False)) : Snd x 28 (bJ7_putChar_28 E Q) := by
  unfold bJ7_putChar_28
  refine s_iload_n rfl G.b dJ7_putChar_28 ?_
  refine s_iconst (by decide) G.b dJ7_putChar_29 ?_
  refine s_ishl G.b dJ7_putChar_30 ?_
  refine s_istore_n rfl G.b (by rw [G.nl]; decide) (fun _ _ => by rw [hC]) dJ7_putChar_31 ?_
  refine s_aload_n rfl G.b dJ7_putChar_32 ?_
  refine s_iload_n rfl G.b dJ7_putChar_33 ?_
  refine s_iinc (by decide) G.b (by rw [G.nl]; decide) (fun _ _ => by rw [hC]) dJ7_putChar_34 ?_
  refine s_iload_n rfl G.b dJ7_putChar_37 ?_
  refine s_getst EN G q965 (i := 10) rfl dJ7_putChar_38 ?_
  refine s_ishr G.b dJ7_putChar_41 ?_
  refine s_i2b G.b dJ7_putChar_42 ?_
  refine s_bast G.b G.kn dJ7_putChar_43 ?_
  refine s_aload_n rfl G.b dJ7_putChar_44 ?_
  refine s_iload_n rfl G.b dJ7_putChar_45 ?_
  refine s_iload_n rfl G.b dJ7_putChar_46 ?_
  refine s_getst EN G q967 (i := 11) rfl dJ7_putChar_47 ?_
  refine s_ishr G.b dJ7_putChar_50 ?_
  refine s_i2b G.b dJ7_putChar_51 ?_
  refine s_bast G.b G.kn dJ7_putChar_52 ?_
  exact s_return G dJ7_putChar_53
set_option maxHeartbeats 4000000 in
theorem tJ7_putChar_18 {x : CX} {E : Nat → Value} {Q : Rs → HS → Prop} (EN : EX x E) (G : Gd x cJ7_putChar "java/lang/StringUTF16" yJ7_putChar 3 (Option.none : Option Jvm.ClassFile.FieldType) Q) (hF : x.1.2.2.2.frames = 3 ∧ x.1.2.2.2.locals = 84) (hC : x.2.2.2.2.2 = (fun _ => false)) (hxt : (∀ z ∈ x.2.2.1.2.1.exceptionTable.toList, False)) : Snd x 18 (bJ7_putChar_18 E Q) := by
  unfold bJ7_putChar_18
  exact s_no
set_option maxHeartbeats 4000000 in
theorem tJ7_putChar_0 {x : CX} {E : Nat → Value} {Q : Rs → HS → Prop} (EN : EX x E) (G : Gd x cJ7_putChar "java/lang/StringUTF16" yJ7_putChar 3 (Option.none : Option Jvm.ClassFile.FieldType) Q) (hF : x.1.2.2.2.frames = 3 ∧ x.1.2.2.2.locals = 84) (hC : x.2.2.2.2.2 = (fun _ => false)) (hxt : (∀ z ∈ x.2.2.1.2.1.exceptionTable.toList, False)) : Snd x 0 (bJ7_putChar_0 E Q) := by
  unfold bJ7_putChar_0
  refine s_getst EN G q960 (i := 9) rfl dJ7_putChar_0 ?_
  refine s_ifne (tgt := 28) G.b dJ7_putChar_3 (by decide) (tJ7_putChar_28 EN G hF hC hxt) ?_
  refine s_iload_n rfl G.b dJ7_putChar_6 ?_
  refine s_iflt (tgt := 18) G.b dJ7_putChar_7 (by decide) (tJ7_putChar_18 EN G hF hC hxt) ?_
  refine s_iload_n rfl G.b dJ7_putChar_10 ?_
  refine s_aload_n rfl G.b dJ7_putChar_11 ?_
  refine s_callS G (mJ7_length EN) q962 q963 q87 q964 nmk_34 (rm_of hF (Nat.le_of_ble_eq_true rfl) (Nat.le_of_ble_eq_true rfl)) dJ7_putChar_12 ?_ (sx_out G (fun z hz => (hxt z hz).elim))
  refine s_icmplt (tgt := 28) G.b dJ7_putChar_15 (by decide) (tJ7_putChar_28 EN G hF hC hxt) ?_
  exact (tJ7_putChar_18 EN G hF hC hxt)
set_option maxHeartbeats 4000000 in
theorem mJ7_putChar {l : Launch} {D : DE} {s0 : State} {E : Nat → Value} (EN : EV l D s0 E) : rMet l D s0 yJ7_putChar (ws_ yJ7_putChar cJ7_putChar 3 (Option.none : Option Jvm.ClassFile.FieldType)) 3 84 (wJ7_putChar E) := by
  refine body_met (fun _ => false) EN.kn (fun w h => h) (by decide +kernel) rfl (fun av h Q hw => ?_) ?_
  · unfold wJ7_putChar at hw
    split at hw
    · exact Nat.le_of_ble_eq_true rfl
    · exact hw.elim
  · intro p e s m below meth c av h Q hxt G hw
    unfold wJ7_putChar at hw
    split at hw
    · exact tJ7_putChar_0 EN G ⟨rfl, rfl⟩ rfl hxt _ _ _ hw
    · exact hw.elim
/-! java/lang/StringUTF16.inflate([BI[BII)V (J7_inflate) -/
theorem nmk_36 : nm_ok yJ7_putChar 3 := ⟨by decide +kernel, by decide +kernel, by decide +kernel⟩
theorem nmk_37 : nm_ok yJ7_checkBoundsOffCount 3 := ⟨by decide +kernel, by decide +kernel, by decide +kernel⟩
def bJ7_inflate_41 (E : Nat → Value) (Q : Rs → HS → Prop) (X10 : Ct) : Ct :=
  o_return Q
def bJ7_inflate_10 (E : Nat → Value) (Q : Rs → HS → Prop) (X10 : Ct) : Ct :=
  o_iload 5 <|
  o_iload 4 <|
  o_icmpge (bJ7_inflate_41 E Q X10) <|
  o_aload 2 <|
  o_iload 3 <|
  o_iinc 3 1 <|
  o_aload 0 <|
  o_iload 1 <|
  o_iinc 1 1 <|
  o_ald [101, 102] <|
  o_push (.int 255) <|
  o_iand <|
  o_call 3 (wJ7_putChar E) (x_out Q) <|
  o_iinc 5 1 <|
  X10
def bJ7_inflate_0 (E : Nat → Value) (Q : Rs → HS → Prop) (X10 : Ct) : Ct :=
  o_iload 3 <|
  o_iload 4 <|
  o_aload 2 <|
  o_call 3 (wJ7_checkBoundsOffCount E) (x_out Q) <|
  o_push (.int 0) <|
  o_istore 5 <|
  X10
def wJ7_inflate (E : Nat → Value) : Wp := fun av h Q => match av with
  | [a0, a1, a2, a3, a4] => ∀ X10 : Ct, (∀ ls st h, bJ7_inflate_10 E Q X10 ls st h → X10 ls st h) → bJ7_inflate_0 E Q X10 [a0, a1, a2, a3, a4, jk] [] h
  | _ => False
set_option maxHeartbeats 4000000 in
theorem tJ7_inflate_41 {x : CX} {E : Nat → Value} {Q : Rs → HS → Prop} {X10 : Ct} (EN : EX x E) (G : Gd x cJ7_inflate "java/lang/StringUTF16" yJ7_inflate 6 (Option.none : Option Jvm.ClassFile.FieldType) Q) (hF : x.1.2.2.2.frames = 5 ∧ x.1.2.2.2.locals = 131) (hC : x.2.2.2.2.2 = (fun _ => false)) (hxt : (∀ z ∈ x.2.2.1.2.1.exceptionTable.toList, False)) (h10 : Snd x 10 X10) : Snd x 41 (bJ7_inflate_41 E Q X10) := by
  unfold bJ7_inflate_41
  exact s_return G dJ7_inflate_41
set_option maxHeartbeats 4000000 in
theorem tJ7_inflate_10 {x : CX} {E : Nat → Value} {Q : Rs → HS → Prop} {X10 : Ct} (EN : EX x E) (G : Gd x cJ7_inflate "java/lang/StringUTF16" yJ7_inflate 6 (Option.none : Option Jvm.ClassFile.FieldType) Q) (hF : x.1.2.2.2.frames = 5 ∧ x.1.2.2.2.locals = 131) (hC : x.2.2.2.2.2 = (fun _ => false)) (hxt : (∀ z ∈ x.2.2.1.2.1.exceptionTable.toList, False)) (h10 : Snd x 10 X10) : Snd x 10 (bJ7_inflate_10 E Q X10) := by
  unfold bJ7_inflate_10
  refine s_iload G.b dJ7_inflate_10 ?_
  refine s_iload G.b dJ7_inflate_12 ?_
  refine s_icmpge (tgt := 41) G.b dJ7_inflate_14 (by decide) (tJ7_inflate_41 EN G hF hC hxt h10) ?_
  refine s_aload_n rfl G.b dJ7_inflate_17 ?_
  refine s_iload_n rfl G.b dJ7_inflate_18 ?_
  refine s_iinc (by decide) G.b (by rw [G.nl]; decide) (fun _ _ => by rw [hC]) dJ7_inflate_19 ?_
  refine s_aload_n rfl G.b dJ7_inflate_22 ?_
  refine s_iload_n rfl G.b dJ7_inflate_23 ?_
  refine s_iinc (by decide) G.b (by rw [G.nl]; decide) (fun _ _ => by rw [hC]) dJ7_inflate_24 ?_
  refine s_bald G.b G.kn dJ7_inflate_27 ?_
  refine s_sipush (by decide) G.b dJ7_inflate_28 ?_
  refine s_iand G.b dJ7_inflate_31 ?_
  refine s_callS G (mJ7_putChar EN) q1180 q1181 q87 q1182 nmk_36 (rm_of hF (Nat.le_of_ble_eq_true rfl) (Nat.le_of_ble_eq_true rfl)) dJ7_inflate_32 ?_ (sx_out G (fun z hz => (hxt z hz).elim))
  refine s_iinc (by decide) G.b (by rw [G.nl]; decide) (fun _ _ => by rw [hC]) dJ7_inflate_35 ?_
  exact s_goto (tgt := 10) G.b dJ7_inflate_38 (by decide) h10
set_option maxHeartbeats 4000000 in
theorem tJ7_inflate_0 {x : CX} {E : Nat → Value} {Q : Rs → HS → Prop} {X10 : Ct} (EN : EX x E) (G : Gd x cJ7_inflate "java/lang/StringUTF16" yJ7_inflate 6 (Option.none : Option Jvm.ClassFile.FieldType) Q) (hF : x.1.2.2.2.frames = 5 ∧ x.1.2.2.2.locals = 131) (hC : x.2.2.2.2.2 = (fun _ => false)) (hxt : (∀ z ∈ x.2.2.1.2.1.exceptionTable.toList, False)) (h10 : Snd x 10 X10) : Snd x 0 (bJ7_inflate_0 E Q X10) := by
  unfold bJ7_inflate_0
  refine s_iload_n rfl G.b dJ7_inflate_0 ?_
  refine s_iload G.b dJ7_inflate_1 ?_
  refine s_aload_n rfl G.b dJ7_inflate_3 ?_
  refine s_callS G (mJ7_checkBoundsOffCount EN) q1171 q1172 q87 q1173 nmk_37 (rm_of hF (Nat.le_of_ble_eq_true rfl) (Nat.le_of_ble_eq_true rfl)) dJ7_inflate_4 ?_ (sx_out G (fun z hz => (hxt z hz).elim))
  refine s_iconst (by decide) G.b dJ7_inflate_7 ?_
  refine s_istore G.b (by rw [G.nl]; decide) (fun _ _ => by rw [hC]) dJ7_inflate_8 ?_
  exact h10
set_option maxHeartbeats 4000000 in
theorem mJ7_inflate {l : Launch} {D : DE} {s0 : State} {E : Nat → Value} (EN : EV l D s0 E) : rMet l D s0 yJ7_inflate (ws_ yJ7_inflate cJ7_inflate 6 (Option.none : Option Jvm.ClassFile.FieldType)) 5 131 (wJ7_inflate E) := by
  refine body_met (fun _ => false) EN.kn (fun w h => h) (by decide +kernel) rfl (fun av h Q hw => ?_) ?_
  · unfold wJ7_inflate at hw
    split at hw
    · exact Nat.le_of_ble_eq_true rfl
    · exact hw.elim
  · intro p e s m below meth c av h Q hxt G hw
    unfold wJ7_inflate at hw
    split at hw
    · exact tJ7_inflate_0 EN G ⟨rfl, rfl⟩ rfl hxt (fun _ _ _ h => h) _ _ _ (hw (AW _ 10) (tJ7_inflate_10 EN G ⟨rfl, rfl⟩ rfl hxt (fun _ _ _ h => h)))
    · exact hw.elim
/-! java/lang/StringLatin1.inflate([BI[BII)V (J17_inflate) -/
theorem nmk_38 : nm_ok yJ7_inflate 5 := ⟨by decide +kernel, by decide +kernel, by decide +kernel⟩
def bJ17_inflate_0 (E : Nat → Value) (Q : Rs → HS → Prop) : Ct :=
  o_aload 0 <|
  o_iload 1 <|
  o_aload 2 <|
  o_iload 3 <|
  o_iload 4 <|
  o_call 5 (wJ7_inflate E) (x_out Q) <|
  o_return Q
def wJ17_inflate (E : Nat → Value) : Wp := fun av h Q => match av with
  | [a0, a1, a2, a3, a4] => bJ17_inflate_0 E Q [a0, a1, a2, a3, a4] [] h
  | _ => False
set_option maxHeartbeats 4000000 in
theorem tJ17_inflate_0 {x : CX} {E : Nat → Value} {Q : Rs → HS → Prop} (EN : EX x E) (G : Gd x cJ17_inflate "java/lang/StringLatin1" yJ17_inflate 5 (Option.none : Option Jvm.ClassFile.FieldType) Q) (hF : x.1.2.2.2.frames = 6 ∧ x.1.2.2.2.locals = 156) (hC : x.2.2.2.2.2 = (fun _ => false)) (hxt : (∀ z ∈ x.2.2.1.2.1.exceptionTable.toList, False)) : Snd x 0 (bJ17_inflate_0 E Q) := by
  unfold bJ17_inflate_0
  refine s_aload_n rfl G.b dJ17_inflate_0 ?_
  refine s_iload_n rfl G.b dJ17_inflate_1 ?_
  refine s_aload_n rfl G.b dJ17_inflate_2 ?_
  refine s_iload_n rfl G.b dJ17_inflate_3 ?_
  refine s_iload G.b dJ17_inflate_4 ?_
  refine s_callS G (mJ7_inflate EN) q1168 q1169 q87 q1170 nmk_38 (rm_of hF (Nat.le_of_ble_eq_true rfl) (Nat.le_of_ble_eq_true rfl)) dJ17_inflate_6 ?_ (sx_out G (fun z hz => (hxt z hz).elim))
  exact s_return G dJ17_inflate_9
set_option maxHeartbeats 4000000 in
theorem mJ17_inflate {l : Launch} {D : DE} {s0 : State} {E : Nat → Value} (EN : EV l D s0 E) : rMet l D s0 yJ17_inflate (ws_ yJ17_inflate cJ17_inflate 5 (Option.none : Option Jvm.ClassFile.FieldType)) 6 156 (wJ17_inflate E) := by
  refine body_met (fun _ => false) EN.kn (fun w h => h) (by decide +kernel) rfl (fun av h Q hw => ?_) ?_
  · unfold wJ17_inflate at hw
    split at hw
    · exact Nat.le_of_ble_eq_true rfl
    · exact hw.elim
  · intro p e s m below meth c av h Q hxt G hw
    unfold wJ17_inflate at hw
    split at hw
    · exact tJ17_inflate_0 EN G ⟨rfl, rfl⟩ rfl hxt _ _ _ hw
    · exact hw.elim
/-! java/lang/AbstractStringBuilder.inflate()V (J4_inflate) -/
theorem nmk_39 : nm_ok yJ17_inflate 5 := ⟨by decide +kernel, by decide +kernel, by decide +kernel⟩
theorem nmk_40 : nm_ok yJ4_isLatin1 0 := ⟨by decide +kernel, by decide +kernel, by decide +kernel⟩
def bJ4_inflate_8 (E : Nat → Value) (Q : Rs → HS → Prop) : Ct :=
  o_aload 0 <|
  o_getf [18] 0 <|
  o_alen <|
  o_call 1 (wJ7_newBytesFor E) (x_out Q) <|
  o_astore 1 <|
  o_aload 0 <|
  o_getf [18] 0 <|
  o_push (.int 0) <|
  o_aload 1 <|
  o_push (.int 0) <|
  o_aload 0 <|
  o_getf [18] 3 <|
  o_call 5 (wJ17_inflate E) (x_out Q) <|
  o_aload 0 <|
  o_aload 1 <|
  o_putf [18] 0 (.array .byte) <|
  o_aload 0 <|
  o_push (.int 1) <|
  o_putf [18] 1 .byte <|
  o_return Q
def bJ4_inflate_0 (E : Nat → Value) (Q : Rs → HS → Prop) : Ct :=
  o_aload 0 <|
  o_callV [18] 1 (wJ4_isLatin1 E) (x_out Q) <|
  o_ifne (bJ4_inflate_8 E Q) <|
  o_return Q
def wJ4_inflate (E : Nat → Value) : Wp := fun av h Q => match av with
  | [a0] => bJ4_inflate_0 E Q [a0, jk] [] h
  | _ => False
set_option maxHeartbeats 4000000 in
theorem tJ4_inflate_8 {x : CX} {E : Nat → Value} {Q : Rs → HS → Prop} (EN : EX x E) (G : Gd x cJ4_inflate "java/lang/AbstractStringBuilder" yJ4_inflate 2 (Option.none : Option Jvm.ClassFile.FieldType) Q) (hF : x.1.2.2.2.frames = 7 ∧ x.1.2.2.2.locals = 180) (hC : x.2.2.2.2.2 = (fun _ => false)) (hxt : (∀ z ∈ x.2.2.1.2.1.exceptionTable.toList, False)) : Snd x 8 (bJ4_inflate_8 E Q) := by
  unfold bJ4_inflate_8
  refine s_aload_n rfl G.b dJ4_inflate_8 ?_
  refine s_getf G.b G.ow G.kn (G.hts _ q245) (fun _ h => h) fa_7 dJ4_inflate_9 ?_
  refine s_alen G.b G.kn dJ4_inflate_12 ?_
  refine s_callS G (mJ7_newBytesFor EN) q238 q239 q87 q240 nmk_6 (rm_of hF (Nat.le_of_ble_eq_true rfl) (Nat.le_of_ble_eq_true rfl)) dJ4_inflate_13 ?_ (sx_out G (fun z hz => (hxt z hz).elim))
  refine s_astore_n rfl G.b (by rw [G.nl]; decide) (fun _ _ => by rw [hC]) dJ4_inflate_16 ?_
  refine s_aload_n rfl G.b dJ4_inflate_17 ?_
  refine s_getf G.b G.ow G.kn (G.hts _ q245) (fun _ h => h) fa_7 dJ4_inflate_18 ?_
  refine s_iconst (by decide) G.b dJ4_inflate_21 ?_
  refine s_aload_n rfl G.b dJ4_inflate_22 ?_
  refine s_iconst (by decide) G.b dJ4_inflate_23 ?_
  refine s_aload_n rfl G.b dJ4_inflate_24 ?_
  refine s_getf G.b G.ow G.kn (G.hts _ q249) (fun _ h => h) fa_23 dJ4_inflate_25 ?_
  refine s_callS G (mJ17_inflate EN) q1165 q1166 q105 q1167 nmk_39 (rm_of hF (Nat.le_of_ble_eq_true rfl) (Nat.le_of_ble_eq_true rfl)) dJ4_inflate_28 ?_ (sx_out G (fun z hz => (hxt z hz).elim))
  refine s_aload_n rfl G.b dJ4_inflate_31 ?_
  refine s_aload_n rfl G.b dJ4_inflate_32 ?_
  refine s_putf G.b G.ow G.kn (G.hts _ q245) (fun _ h => h) fa_7 (la_cons (r := (RJ5, TJ5, 4)) G.hts (by decide) rfl q250 (la_nil)) (by decide +kernel) dJ4_inflate_33 ?_
  refine s_aload_n rfl G.b dJ4_inflate_36 ?_
  refine s_iconst (by decide) G.b dJ4_inflate_37 ?_
  refine s_putf G.b G.ow G.kn (G.hts _ q246) (fun _ h => h) fa_8 (la_cons (r := (RJ5, TJ5, 4)) G.hts (by decide) rfl q252 (la_nil)) (by decide +kernel) dJ4_inflate_38 ?_
  exact s_return G dJ4_inflate_41
set_option maxHeartbeats 4000000 in
theorem tJ4_inflate_0 {x : CX} {E : Nat → Value} {Q : Rs → HS → Prop} (EN : EX x E) (G : Gd x cJ4_inflate "java/lang/AbstractStringBuilder" yJ4_inflate 2 (Option.none : Option Jvm.ClassFile.FieldType) Q) (hF : x.1.2.2.2.frames = 7 ∧ x.1.2.2.2.locals = 180) (hC : x.2.2.2.2.2 = (fun _ => false)) (hxt : (∀ z ∈ x.2.2.1.2.1.exceptionTable.toList, False)) : Snd x 0 (bJ4_inflate_0 E Q) := by
  unfold bJ4_inflate_0
  refine s_aload_n rfl G.b dJ4_inflate_0 ?_
  refine s_callV G (mJ4_isLatin1 EN) q1153 q1154 (sel_cons (r := (RJ5, TJ5, 4)) (by decide) rfl q1156 (sel_nil)) q84 q1157 nmk_40 (rm_of hF (Nat.le_of_ble_eq_true rfl) (Nat.le_of_ble_eq_true rfl)) dJ4_inflate_1 ?_ (sx_out G (fun z hz => (hxt z hz).elim))
  refine s_ifne (tgt := 8) G.b dJ4_inflate_4 (by decide) (tJ4_inflate_8 EN G hF hC hxt) ?_
  exact s_return G dJ4_inflate_7
set_option maxHeartbeats 4000000 in
theorem mJ4_inflate {l : Launch} {D : DE} {s0 : State} {E : Nat → Value} (EN : EV l D s0 E) : rMet l D s0 yJ4_inflate (ws_ yJ4_inflate cJ4_inflate 2 (Option.none : Option Jvm.ClassFile.FieldType)) 7 180 (wJ4_inflate E) := by
  refine body_met (fun _ => false) EN.kn (fun w h => h) (by decide +kernel) rfl (fun av h Q hw => ?_) ?_
  · unfold wJ4_inflate at hw
    split at hw
    · exact Nat.le_of_ble_eq_true rfl
    · exact hw.elim
  · intro p e s m below meth c av h Q hxt G hw
    unfold wJ4_inflate at hw
    split at hw
    · exact tJ4_inflate_0 EN G ⟨rfl, rfl⟩ rfl hxt _ _ _ hw
    · exact hw.elim
/-! java/lang/StringLatin1.canEncode(C)Z (J17_canEncode) -/
def bJ17_canEncode_12 (E : Nat → Value) (Q : Rs → HS → Prop) : Ct :=
  o_ireturn .boolean Q
def bJ17_canEncode_11 (E : Nat → Value) (Q : Rs → HS → Prop) : Ct :=
  o_push (.int 0) <|
  (bJ17_canEncode_12 E Q)
def bJ17_canEncode_0 (E : Nat → Value) (Q : Rs → HS → Prop) : Ct :=
  o_iload 0 <|
  o_push (.int 255) <|
  o_icmpgt (bJ17_canEncode_11 E Q) <|
  o_push (.int 1) <|
  (bJ17_canEncode_12 E Q)
def wJ17_canEncode (E : Nat → Value) : Wp := fun av h Q => match av with
  | [a0] => bJ17_canEncode_0 E Q [a0] [] h
  | _ => False
set_option maxHeartbeats 4000000 in
theorem tJ17_canEncode_12 {x : CX} {E : Nat → Value} {Q : Rs → HS → Prop} (EN : EX x E) (G : Gd x cJ17_canEncode "java/lang/StringLatin1" yJ17_canEncode 1 (Option.some Jvm.ClassFile.FieldType.boolean) Q) (hF : x.1.2.2.2.frames = 2 ∧ x.1.2.2.2.locals = 64) (hC : x.2.2.2.2.2 = (fun _ => false)) (hxt : (∀ z ∈ x.2.2.1.2.1.exceptionTable.toList, False)) : Snd x 12 (bJ17_canEncode_12 E Q) := by
  unfold bJ17_canEncode_12
  exact s_ireturn G dJ17_canEncode_12
set_option maxHeartbeats 4000000 in
theorem tJ17_canEncode_11 {x : CX} {E : Nat → Value} {Q : Rs → HS → Prop} (EN : EX x E) (G : Gd x cJ17_canEncode "java/lang/StringLatin1" yJ17_canEncode 1 (Option.some Jvm.ClassFile.FieldType.boolean) Q) (hF : x.1.2.2.2.frames = 2 ∧ x.1.2.2.2.locals = 64) (hC : x.2.2.2.2.2 = (fun _ => false)) (hxt : (∀ z ∈ x.2.2.1.2.1.exceptionTable.toList, False)) : Snd x 11 (bJ17_canEncode_11 E Q) := by
  unfold bJ17_canEncode_11
  refine s_iconst (by decide) G.b dJ17_canEncode_11 ?_
  exact (tJ17_canEncode_12 EN G hF hC hxt)
set_option maxHeartbeats 4000000 in
theorem tJ17_canEncode_0 {x : CX} {E : Nat → Value} {Q : Rs → HS → Prop} (EN : EX x E) (G : Gd x cJ17_canEncode "java/lang/StringLatin1" yJ17_canEncode 1 (Option.some Jvm.ClassFile.FieldType.boolean) Q) (hF : x.1.2.2.2.frames = 2 ∧ x.1.2.2.2.locals = 64) (hC : x.2.2.2.2.2 = (fun _ => false)) (hxt : (∀ z ∈ x.2.2.1.2.1.exceptionTable.toList, False)) : Snd x 0 (bJ17_canEncode_0 E Q) := by
  unfold bJ17_canEncode_0
  refine s_iload_n rfl G.b dJ17_canEncode_0 ?_
  refine s_sipush (by decide) G.b dJ17_canEncode_1 ?_
  refine s_icmpgt (tgt := 11) G.b dJ17_canEncode_4 (by decide) (tJ17_canEncode_11 EN G hF hC hxt) ?_
  refine s_iconst (by decide) G.b dJ17_canEncode_7 ?_
  exact s_goto (tgt := 12) G.b dJ17_canEncode_8 (by decide) (tJ17_canEncode_12 EN G hF hC hxt)
set_option maxHeartbeats 4000000 in
theorem mJ17_canEncode {l : Launch} {D : DE} {s0 : State} {E : Nat → Value} (EN : EV l D s0 E) : rMet l D s0 yJ17_canEncode (ws_ yJ17_canEncode cJ17_canEncode 1 (Option.some Jvm.ClassFile.FieldType.boolean)) 2 64 (wJ17_canEncode E) := by
  refine body_met (fun _ => false) EN.kn (fun w h => h) (by decide +kernel) rfl (fun av h Q hw => ?_) ?_
  · unfold wJ17_canEncode at hw
    split at hw
    · exact Nat.le_of_ble_eq_true rfl
    · exact hw.elim
  · intro p e s m below meth c av h Q hxt G hw
    unfold wJ17_canEncode at hw
    split at hw
    · exact tJ17_canEncode_0 EN G ⟨rfl, rfl⟩ rfl hxt _ _ _ hw
    · exact hw.elim
/-! jdk/internal/util/Preconditions.checkIndex(IILjava/util/function/BiFunction;)I (J16_checkIndex) -/
def bJ16_checkIndex_16 (E : Nat → Value) (Q : Rs → HS → Prop) : Ct :=
  o_iload 0 <|
  o_ireturn .int Q
def bJ16_checkIndex_9 (E : Nat → Value) (Q : Rs → HS → Prop) : Ct :=
  o_aload 2 <|
  o_iload 0 <|
  o_iload 1 <|
  o_no
def bJ16_checkIndex_0 (E : Nat → Value) (Q : Rs → HS → Prop) : Ct :=
  o_iload 0 <|
  o_iflt (bJ16_checkIndex_9 E Q) <|
  o_iload 0 <|
  o_iload 1 <|
  o_icmplt (bJ16_checkIndex_16 E Q) <|
  (bJ16_checkIndex_9 E Q)
def wJ16_checkIndex (E : Nat → Value) : Wp := fun av h Q => match av with
  | [a0, a1, a2] => bJ16_checkIndex_0 E Q [a0, a1, a2] [] h
  | _ => False
set_option maxHeartbeats 4000000 in
theorem tJ16_checkIndex_16 {x : CX} {E : Nat → Value} {Q : Rs → HS → Prop} (EN : EX x E) (G : Gd x cJ16_checkIndex "jdk/internal/util/Preconditions" yJ16_checkIndex 3 (Option.some Jvm.ClassFile.FieldType.int) Q) (hF : x.1.2.2.2.frames = 2 ∧ x.1.2.2.2.locals = 64) (hC : x.2.2.2.2.2 = (fun _ => false)) (hxt : (∀ z ∈ x.2.2.1.2.1.exceptionTable.toList, False)) : Snd x 16 (bJ16_checkIndex_16 E Q) := by
  unfold bJ16_checkIndex_16
  refine s_iload_n rfl G.b dJ16_checkIndex_16 ?_
  exact s_ireturn G dJ16_checkIndex_17
set_option maxHeartbeats 4000000 in
theorem tJ16_checkIndex_9 {x : CX} {E : Nat → Value} {Q : Rs → HS → Prop} (EN : EX x E) (G : Gd x cJ16_checkIndex "jdk/internal/util/Preconditions" yJ16_checkIndex 3 (Option.some Jvm.ClassFile.FieldType.int) Q) (hF : x.1.2.2.2.frames = 2 ∧ x.1.2.2.2.locals = 64) (hC : x.2.2.2.2.2 = (fun _ => false)) (hxt : (∀ z ∈ x.2.2.1.2.1.exceptionTable.toList, False)) : Snd x 9 (bJ16_checkIndex_9 E Q) := by
  unfold bJ16_checkIndex_9
  refine s_aload_n rfl G.b dJ16_checkIndex_9 ?_
  refine s_iload_n rfl G.b dJ16_checkIndex_10 ?_
  refine s_iload_n rfl G.b dJ16_checkIndex_11 ?_
  exact s_no
set_option maxHeartbeats 4000000 in
theorem tJ16_checkIndex_0 {x : CX} {E : Nat → Value} {Q : Rs → HS → Prop} (EN : EX x E) (G : Gd x cJ16_checkIndex "jdk/internal/util/Preconditions" yJ16_checkIndex 3 (Option.some Jvm.ClassFile.FieldType.int) Q) (hF : x.1.2.2.2.frames = 2 ∧ x.1.2.2.2.locals = 64) (hC : x.2.2.2.2.2 = (fun _ => false)) (hxt : (∀ z ∈ x.2.2.1.2.1.exceptionTable.toList, False)) : Snd x 0 (bJ16_checkIndex_0 E Q) := by
  unfold bJ16_checkIndex_0
  refine s_iload_n rfl G.b dJ16_checkIndex_0 ?_
  refine s_iflt (tgt := 9) G.b dJ16_checkIndex_1 (by decide) (tJ16_checkIndex_9 EN G hF hC hxt) ?_
  refine s_iload_n rfl G.b dJ16_checkIndex_4 ?_
  refine s_iload_n rfl G.b dJ16_checkIndex_5 ?_
  refine s_icmplt (tgt := 16) G.b dJ16_checkIndex_6 (by decide) (tJ16_checkIndex_16 EN G hF hC hxt) ?_
  exact (tJ16_checkIndex_9 EN G hF hC hxt)
set_option maxHeartbeats 4000000 in
theorem mJ16_checkIndex {l : Launch} {D : DE} {s0 : State} {E : Nat → Value} (EN : EV l D s0 E) : rMet l D s0 yJ16_checkIndex (ws_ yJ16_checkIndex cJ16_checkIndex 3 (Option.some Jvm.ClassFile.FieldType.int)) 2 64 (wJ16_checkIndex E) := by
  refine body_met (fun _ => false) EN.kn (fun w h => h) (by decide +kernel) rfl (fun av h Q hw => ?_) ?_
  · unfold wJ16_checkIndex at hw
    split at hw
    · exact Nat.le_of_ble_eq_true rfl
    · exact hw.elim
  · intro p e s m below meth c av h Q hxt G hw
    unfold wJ16_checkIndex at hw
    split at hw
    · exact tJ16_checkIndex_0 EN G ⟨rfl, rfl⟩ rfl hxt _ _ _ hw
    · exact hw.elim
/-! java/lang/String.checkIndex(II)V (J6_checkIndex) -/
theorem nmk_41 : nm_ok yJ16_checkIndex 3 := ⟨by decide +kernel, by decide +kernel, by decide +kernel⟩
def bJ6_checkIndex_0 (E : Nat → Value) (Q : Rs → HS → Prop) : Ct :=
  o_iload 0 <|
  o_iload 1 <|
  o_push (E 16) <|
  o_call 3 (wJ16_checkIndex E) (x_out Q) <|
  o_pop <|
  o_return Q
def wJ6_checkIndex (E : Nat → Value) : Wp := fun av h Q => match av with
  | [a0, a1] => bJ6_checkIndex_0 E Q [a0, a1] [] h
  | _ => False
set_option maxHeartbeats 4000000 in
theorem tJ6_checkIndex_0 {x : CX} {E : Nat → Value} {Q : Rs → HS → Prop} (EN : EX x E) (G : Gd x cJ6_checkIndex "java/lang/String" yJ6_checkIndex 2 (Option.none : Option Jvm.ClassFile.FieldType) Q) (hF : x.1.2.2.2.frames = 3 ∧ x.1.2.2.2.locals = 86) (hC : x.2.2.2.2.2 = (fun _ => false)) (hxt : (∀ z ∈ x.2.2.1.2.1.exceptionTable.toList, False)) : Snd x 0 (bJ6_checkIndex_0 E Q) := by
  unfold bJ6_checkIndex_0
  refine s_iload_n rfl G.b dJ6_checkIndex_0 ?_
  refine s_iload_n rfl G.b dJ6_checkIndex_1 ?_
  refine s_getst EN G q954 (i := 16) rfl dJ6_checkIndex_2 ?_
  refine s_callS G (mJ16_checkIndex EN) q956 q700 q102 q701 nmk_41 (rm_of hF (Nat.le_of_ble_eq_true rfl) (Nat.le_of_ble_eq_true rfl)) dJ6_checkIndex_5 ?_ (sx_out G (fun z hz => (hxt z hz).elim))
  refine s_pop G.b dJ6_checkIndex_8 ?_
  exact s_return G dJ6_checkIndex_9
set_option maxHeartbeats 4000000 in
theorem mJ6_checkIndex {l : Launch} {D : DE} {s0 : State} {E : Nat → Value} (EN : EV l D s0 E) : rMet l D s0 yJ6_checkIndex (ws_ yJ6_checkIndex cJ6_checkIndex 2 (Option.none : Option Jvm.ClassFile.FieldType)) 3 86 (wJ6_checkIndex E) := by
  refine body_met (fun _ => false) EN.kn (fun w h => h) (by decide +kernel) rfl (fun av h Q hw => ?_) ?_
  · unfold wJ6_checkIndex at hw
    split at hw
    · exact Nat.le_of_ble_eq_true rfl
    · exact hw.elim
  · intro p e s m below meth c av h Q hxt G hw
    unfold wJ6_checkIndex at hw
    split at hw
    · exact tJ6_checkIndex_0 EN G ⟨rfl, rfl⟩ rfl hxt _ _ _ hw
    · exact hw.elim
/-! java/lang/StringUTF16.checkIndex(I[B)V (J7_checkIndex) -/
theorem nmk_42 : nm_ok yJ6_checkIndex 2 := ⟨by decide +kernel, by decide +kernel, by decide +kernel⟩
def bJ7_checkIndex_0 (E : Nat → Value) (Q : Rs → HS → Prop) : Ct :=
  o_iload 0 <|
  o_aload 1 <|
  o_call 1 (wJ7_length E) (x_out Q) <|
  o_call 2 (wJ6_checkIndex E) (x_out Q) <|
  o_return Q
def wJ7_checkIndex (E : Nat → Value) : Wp := fun av h Q => match av with
  | [a0, a1] => bJ7_checkIndex_0 E Q [a0, a1] [] h
  | _ => False
set_option maxHeartbeats 4000000 in
theorem tJ7_checkIndex_0 {x : CX} {E : Nat → Value} {Q : Rs → HS → Prop} (EN : EX x E) (G : Gd x cJ7_checkIndex "java/lang/StringUTF16" yJ7_checkIndex 2 (Option.none : Option Jvm.ClassFile.FieldType) Q) (hF : x.1.2.2.2.frames = 4 ∧ x.1.2.2.2.locals = 107) (hC : x.2.2.2.2.2 = (fun _ => false)) (hxt : (∀ z ∈ x.2.2.1.2.1.exceptionTable.toList, False)) : Snd x 0 (bJ7_checkIndex_0 E Q) := by
  unfold bJ7_checkIndex_0
  refine s_iload_n rfl G.b dJ7_checkIndex_0 ?_
  refine s_aload_n rfl G.b dJ7_checkIndex_1 ?_
  refine s_callS G (mJ7_length EN) q962 q963 q87 q964 nmk_34 (rm_of hF (Nat.le_of_ble_eq_true rfl) (Nat.le_of_ble_eq_true rfl)) dJ7_checkIndex_2 ?_ (sx_out G (fun z hz => (hxt z hz).elim))
  refine s_callS G (mJ6_checkIndex EN) q1082 q952 q86 q953 nmk_42 (rm_of hF (Nat.le_of_ble_eq_true rfl) (Nat.le_of_ble_eq_true rfl)) dJ7_checkIndex_5 ?_ (sx_out G (fun z hz => (hxt z hz).elim))
  exact s_return G dJ7_checkIndex_8
set_option maxHeartbeats 4000000 in
theorem mJ7_checkIndex {l : Launch} {D : DE} {s0 : State} {E : Nat → Value} (EN : EV l D s0 E) : rMet l D s0 yJ7_checkIndex (ws_ yJ7_checkIndex cJ7_checkIndex 2 (Option.none : Option Jvm.ClassFile.FieldType)) 4 107 (wJ7_checkIndex E) := by
  refine body_met (fun _ => false) EN.kn (fun w h => h) (by decide +kernel) rfl (fun av h Q hw => ?_) ?_
  · unfold wJ7_checkIndex at hw
    split at hw
    · exact Nat.le_of_ble_eq_true rfl
    · exact hw.elim
  · intro p e s m below meth c av h Q hxt G hw
    unfold wJ7_checkIndex at hw
    split at hw
    · exact tJ7_checkIndex_0 EN G ⟨rfl, rfl⟩ rfl hxt _ _ _ hw
    · exact hw.elim
/-! java/lang/StringUTF16.putCharSB([BII)V (J7_putCharSB) -/
theorem nmk_43 : nm_ok yJ7_checkIndex 2 := ⟨by decide +kernel, by decide +kernel, by decide +kernel⟩
def bJ7_putCharSB_0 (E : Nat → Value) (Q : Rs → HS → Prop) : Ct :=
  o_iload 1 <|
  o_aload 0 <|
  o_call 2 (wJ7_checkIndex E) (x_out Q) <|
  o_aload 0 <|
  o_iload 1 <|
  o_iload 2 <|
  o_call 3 (wJ7_putChar E) (x_out Q) <|
  o_return Q
def wJ7_putCharSB (E : Nat → Value) : Wp := fun av h Q => match av with
  | [a0, a1, a2] => bJ7_putCharSB_0 E Q [a0, a1, a2] [] h
  | _ => False
set_option maxHeartbeats 4000000 in
theorem tJ7_putCharSB_0 {x : CX} {E : Nat → Value} {Q : Rs → HS → Prop} (EN : EX x E) (G : Gd x cJ7_putCharSB "java/lang/StringUTF16" yJ7_putCharSB 3 (Option.none : Option Jvm.ClassFile.FieldType) Q) (hF : x.1.2.2.2.frames = 5 ∧ x.1.2.2.2.locals = 128) (hC : x.2.2.2.2.2 = (fun _ => false)) (hxt : (∀ z ∈ x.2.2.1.2.1.exceptionTable.toList, False)) : Snd x 0 (bJ7_putCharSB_0 E Q) := by
  unfold bJ7_putCharSB_0
  refine s_iload_n rfl G.b dJ7_putCharSB_0 ?_
  refine s_aload_n rfl G.b dJ7_putCharSB_1 ?_
  refine s_callS G (mJ7_checkIndex EN) q1079 q1080 q87 q1081 nmk_43 (rm_of hF (Nat.le_of_ble_eq_true rfl) (Nat.le_of_ble_eq_true rfl)) dJ7_putCharSB_2 ?_ (sx_out G (fun z hz => (hxt z hz).elim))
  refine s_aload_n rfl G.b dJ7_putCharSB_5 ?_
  refine s_iload_n rfl G.b dJ7_putCharSB_6 ?_
  refine s_iload_n rfl G.b dJ7_putCharSB_7 ?_
  refine s_callS G (mJ7_putChar EN) q1180 q1181 q87 q1182 nmk_36 (rm_of hF (Nat.le_of_ble_eq_true rfl) (Nat.le_of_ble_eq_true rfl)) dJ7_putCharSB_8 ?_ (sx_out G (fun z hz => (hxt z hz).elim))
  exact s_return G dJ7_putCharSB_11
set_option maxHeartbeats 4000000 in
theorem mJ7_putCharSB {l : Launch} {D : DE} {s0 : State} {E : Nat → Value} (EN : EV l D s0 E) : rMet l D s0 yJ7_putCharSB (ws_ yJ7_putCharSB cJ7_putCharSB 3 (Option.none : Option Jvm.ClassFile.FieldType)) 5 128 (wJ7_putCharSB E) := by
  refine body_met (fun _ => false) EN.kn (fun w h => h) (by decide +kernel) rfl (fun av h Q hw => ?_) ?_
  · unfold wJ7_putCharSB at hw
    split at hw
    · exact Nat.le_of_ble_eq_true rfl
    · exact hw.elim
  · intro p e s m below meth c av h Q hxt G hw
    unfold wJ7_putCharSB at hw
    split at hw
    · exact tJ7_putCharSB_0 EN G ⟨rfl, rfl⟩ rfl hxt _ _ _ hw
    · exact hw.elim
/-! java/lang/AbstractStringBuilder.append(C)Ljava/lang/AbstractStringBuilder; (J4_append) -/
theorem nmk_44 : nm_ok yJ7_putCharSB 3 := ⟨by decide +kernel, by decide +kernel, by decide +kernel⟩
theorem nmk_45 : nm_ok yJ4_inflate 0 := ⟨by decide +kernel, by decide +kernel, by decide +kernel⟩
theorem nmk_46 : nm_ok yJ4_ensureCapacityInternal 1 := ⟨by decide +kernel, by decide +kernel, by decide +kernel⟩
theorem nmk_47 : nm_ok yJ17_canEncode 1 := ⟨by decide +kernel, by decide +kernel, by decide +kernel⟩
def bJ4_append_75 (E : Nat → Value) (Q : Rs → HS → Prop) : Ct :=
  o_aload 0 <|
  o_areturn Q
def bJ4_append_56 (E : Nat → Value) (Q : Rs → HS → Prop) : Ct :=
  o_aload 0 <|
  o_getf [18] 0 <|
  o_aload 0 <|
  o_dup <|
  o_getf [18] 3 <|
  o_dup_x1 <|
  o_push (.int 1) <|
  o_iadd <|
  o_putf [18] 3 .int <|
  o_iload 1 <|
  o_call 3 (wJ7_putCharSB E) (x_out Q) <|
  (bJ4_append_75 E Q)
def bJ4_append_45 (E : Nat → Value) (Q : Rs → HS → Prop) : Ct :=
  o_aload 0 <|
  o_callV [18] 1 (wJ4_isLatin1 E) (x_out Q) <|
  o_ifeq (bJ4_append_56 E Q) <|
  o_aload 0 <|
  o_callV [18] 1 (wJ4_inflate E) (x_out Q) <|
  (bJ4_append_56 E Q)
def bJ4_append_0 (E : Nat → Value) (Q : Rs → HS → Prop) : Ct :=
  o_aload 0 <|
  o_aload 0 <|
  o_getf [18] 3 <|
  o_push (.int 1) <|
  o_iadd <|
  o_callV [18] 2 (wJ4_ensureCapacityInternal E) (x_out Q) <|
  o_aload 0 <|
  o_callV [18] 1 (wJ4_isLatin1 E) (x_out Q) <|
  o_ifeq (bJ4_append_45 E Q) <|
  o_iload 1 <|
  o_call 1 (wJ17_canEncode E) (x_out Q) <|
  o_ifeq (bJ4_append_45 E Q) <|
  o_aload 0 <|
  o_getf [18] 0 <|
  o_aload 0 <|
  o_dup <|
  o_getf [18] 3 <|
  o_dup_x1 <|
  o_push (.int 1) <|
  o_iadd <|
  o_putf [18] 3 .int <|
  o_iload 1 <|
  o_i2b <|
  o_ast [(101, .boolean), (102, .byte)] <|
  (bJ4_append_75 E Q)
def wJ4_append (E : Nat → Value) : Wp := fun av h Q => match av with
  | [a0, a1] => bJ4_append_0 E Q [a0, a1] [] h
  | _ => False
set_option maxHeartbeats 4000000 in
theorem tJ4_append_75 {x : CX} {E : Nat → Value} {Q : Rs → HS → Prop} (EN : EX x E) (G : Gd x cJ4_append "java/lang/AbstractStringBuilder" yJ4_append 2 (Option.some (Jvm.ClassFile.FieldType.object "java/lang/AbstractStringBuilder")) Q) (hF : x.1.2.2.2.frames = 10 ∧ x.1.2.2.2.locals = 244) (hC : x.2.2.2.2.2 = (fun _ => false)) (hxt : (∀ z ∈ x.2.2.1.2.1.exceptionTable.toList, False)) : Snd x 75 (bJ4_append_75 E Q) := by
  unfold bJ4_append_75
  refine s_aload_n rfl G.b dJ4_append_75 ?_
  exact s_areturn (Or.inl ⟨_, rfl⟩) G dJ4_append_76
set_option maxHeartbeats 4000000 in
theorem tJ4_append_56 {x : CX} {E : Nat → Value} {Q : Rs → HS → Prop} (EN : EX x E) (G : Gd x cJ4_append "java/lang/AbstractStringBuilder" yJ4_append 2 (Option.some (Jvm.ClassFile.FieldType.object "java/lang/AbstractStringBuilder")) Q) (hF : x.1.2.2.2.frames = 10 ∧ x.1.2.2.2.locals = 244) (hC : x.2.2.2.2.2 = (fun _ => false)) (hxt : (∀ z ∈ x.2.2.1.2.1.exceptionTable.toList, False)) : Snd x 56 (bJ4_append_56 E Q) := by
  unfold bJ4_append_56
  refine s_aload_n rfl G.b dJ4_append_56 ?_
  refine s_getf G.b G.ow G.kn (G.hts _ q245) (fun _ h => h) fa_7 dJ4_append_57 ?_
  refine s_aload_n rfl G.b dJ4_append_60 ?_
  refine s_dup G.b dJ4_append_61 ?_
  refine s_getf G.b G.ow G.kn (G.hts _ q249) (fun _ h => h) fa_23 dJ4_append_62 ?_
  refine s_dup_x1 G.b dJ4_append_65 ?_
  refine s_iconst (by decide) G.b dJ4_append_66 ?_
  refine s_iadd G.b dJ4_append_67 ?_
  refine s_putf G.b G.ow G.kn (G.hts _ q249) (fun _ h => h) fa_23 (la_cons (r := (RJ5, TJ5, 4)) G.hts (by decide) rfl q256 (la_nil)) (by decide +kernel) dJ4_append_68 ?_
  refine s_iload_n rfl G.b dJ4_append_71 ?_
  refine s_callS G (mJ7_putCharSB EN) q1183 q1184 q87 q1185 nmk_44 (rm_of hF (Nat.le_of_ble_eq_true rfl) (Nat.le_of_ble_eq_true rfl)) dJ4_append_72 ?_ (sx_out G (fun z hz => (hxt z hz).elim))
  exact (tJ4_append_75 EN G hF hC hxt)
set_option maxHeartbeats 4000000 in
theorem tJ4_append_45 {x : CX} {E : Nat → Value} {Q : Rs → HS → Prop} (EN : EX x E) (G : Gd x cJ4_append "java/lang/AbstractStringBuilder" yJ4_append 2 (Option.some (Jvm.ClassFile.FieldType.object "java/lang/AbstractStringBuilder")) Q) (hF : x.1.2.2.2.frames = 10 ∧ x.1.2.2.2.locals = 244) (hC : x.2.2.2.2.2 = (fun _ => false)) (hxt : (∀ z ∈ x.2.2.1.2.1.exceptionTable.toList, False)) : Snd x 45 (bJ4_append_45 E Q) := by
  unfold bJ4_append_45
  refine s_aload_n rfl G.b dJ4_append_45 ?_
  refine s_callV G (mJ4_isLatin1 EN) q1153 q1154 (sel_cons (r := (RJ5, TJ5, 4)) (by decide) rfl q1156 (sel_nil)) q84 q1157 nmk_40 (rm_of hF (Nat.le_of_ble_eq_true rfl) (Nat.le_of_ble_eq_true rfl)) dJ4_append_46 ?_ (sx_out G (fun z hz => (hxt z hz).elim))
  refine s_ifeq (tgt := 56) G.b dJ4_append_49 (by decide) (tJ4_append_56 EN G hF hC hxt) ?_
  refine s_aload_n rfl G.b dJ4_append_52 ?_
  refine s_callVP EN (by decide) G (mJ4_inflate EN) q1161 q1162 q1163 q2349 q84 q1164 nmk_45 (rm_of hF (Nat.le_of_ble_eq_true rfl) (Nat.le_of_ble_eq_true rfl)) dJ4_append_53 ?_ (sx_out G (fun z hz => (hxt z hz).elim))
  exact (tJ4_append_56 EN G hF hC hxt)
set_option maxHeartbeats 4000000 in
theorem tJ4_append_0 {x : CX} {E : Nat → Value} {Q : Rs → HS → Prop} (EN : EX x E) (G : Gd x cJ4_append "java/lang/AbstractStringBuilder" yJ4_append 2 (Option.some (Jvm.ClassFile.FieldType.object "java/lang/AbstractStringBuilder")) Q) (hF : x.1.2.2.2.frames = 10 ∧ x.1.2.2.2.locals = 244) (hC : x.2.2.2.2.2 = (fun _ => false)) (hxt : (∀ z ∈ x.2.2.1.2.1.exceptionTable.toList, False)) : Snd x 0 (bJ4_append_0 E Q) := by
  unfold bJ4_append_0
  refine s_aload_n rfl G.b dJ4_append_0 ?_
  refine s_aload_n rfl G.b dJ4_append_1 ?_
  refine s_getf G.b G.ow G.kn (G.hts _ q249) (fun _ h => h) fa_23 dJ4_append_2 ?_
  refine s_iconst (by decide) G.b dJ4_append_5 ?_
  refine s_iadd G.b dJ4_append_6 ?_
  refine s_callVP EN (by decide) G (mJ4_ensureCapacityInternal EN) q1135 q1136 q1137 q2347 q84 q1138 nmk_46 (rm_of hF (Nat.le_of_ble_eq_true rfl) (Nat.le_of_ble_eq_true rfl)) dJ4_append_7 ?_ (sx_out G (fun z hz => (hxt z hz).elim))
  refine s_aload_n rfl G.b dJ4_append_10 ?_
  refine s_callV G (mJ4_isLatin1 EN) q1153 q1154 (sel_cons (r := (RJ5, TJ5, 4)) (by decide) rfl q1156 (sel_nil)) q84 q1157 nmk_40 (rm_of hF (Nat.le_of_ble_eq_true rfl) (Nat.le_of_ble_eq_true rfl)) dJ4_append_11 ?_ (sx_out G (fun z hz => (hxt z hz).elim))
  refine s_ifeq (tgt := 45) G.b dJ4_append_14 (by decide) (tJ4_append_45 EN G hF hC hxt) ?_
  refine s_iload_n rfl G.b dJ4_append_17 ?_
  refine s_callS G (mJ17_canEncode EN) q1158 q1159 q105 q1160 nmk_47 (rm_of hF (Nat.le_of_ble_eq_true rfl) (Nat.le_of_ble_eq_true rfl)) dJ4_append_18 ?_ (sx_out G (fun z hz => (hxt z hz).elim))
  refine s_ifeq (tgt := 45) G.b dJ4_append_21 (by decide) (tJ4_append_45 EN G hF hC hxt) ?_
  refine s_aload_n rfl G.b dJ4_append_24 ?_
  refine s_getf G.b G.ow G.kn (G.hts _ q245) (fun _ h => h) fa_7 dJ4_append_25 ?_
  refine s_aload_n rfl G.b dJ4_append_28 ?_
  refine s_dup G.b dJ4_append_29 ?_
  refine s_getf G.b G.ow G.kn (G.hts _ q249) (fun _ h => h) fa_23 dJ4_append_30 ?_
  refine s_dup_x1 G.b dJ4_append_33 ?_
  refine s_iconst (by decide) G.b dJ4_append_34 ?_
  refine s_iadd G.b dJ4_append_35 ?_
  refine s_putf G.b G.ow G.kn (G.hts _ q249) (fun _ h => h) fa_23 (la_cons (r := (RJ5, TJ5, 4)) G.hts (by decide) rfl q256 (la_nil)) (by decide +kernel) dJ4_append_36 ?_
  refine s_iload_n rfl G.b dJ4_append_39 ?_
  refine s_i2b G.b dJ4_append_40 ?_
  refine s_bast G.b G.kn dJ4_append_41 ?_
  exact s_goto (tgt := 75) G.b dJ4_append_42 (by decide) (tJ4_append_75 EN G hF hC hxt)
set_option maxHeartbeats 4000000 in
theorem mJ4_append {l : Launch} {D : DE} {s0 : State} {E : Nat → Value} (EN : EV l D s0 E) : rMet l D s0 yJ4_append (ws_ yJ4_append cJ4_append 2 (Option.some (Jvm.ClassFile.FieldType.object "java/lang/AbstractStringBuilder"))) 10 244 (wJ4_append E) := by
  refine body_met (fun _ => false) EN.kn (fun w h => h) (by decide +kernel) rfl (fun av h Q hw => ?_) ?_
  · unfold wJ4_append at hw
    split at hw
    · exact Nat.le_of_ble_eq_true rfl
    · exact hw.elim
  · intro p e s m below meth c av h Q hxt G hw
    unfold wJ4_append at hw
    split at hw
    · exact tJ4_append_0 EN G ⟨rfl, rfl⟩ rfl hxt _ _ _ hw
    · exact hw.elim
/-! java/lang/StringBuilder.append(C)Ljava/lang/StringBuilder; (J5_append) -/
theorem nmk_48 : nm_ok yJ4_append 1 := ⟨by decide +kernel, by decide +kernel, by decide +kernel⟩
def bJ5_append_0 (E : Nat → Value) (Q : Rs → HS → Prop) : Ct :=
  o_aload 0 <|
  o_iload 1 <|
  o_callV [18] 2 (wJ4_append E) (x_out Q) <|
  o_pop <|
  o_aload 0 <|
  o_areturn Q
def wJ5_append (E : Nat → Value) : Wp := fun av h Q => match av with
  | [a0, a1] => bJ5_append_0 E Q [a0, a1] [] h
  | _ => False
set_option maxHeartbeats 4000000 in
theorem tJ5_append_0 {x : CX} {E : Nat → Value} {Q : Rs → HS → Prop} (EN : EX x E) (G : Gd x cJ5_append "java/lang/StringBuilder" yJ5_append 2 (Option.some (Jvm.ClassFile.FieldType.object "java/lang/StringBuilder")) Q) (hF : x.1.2.2.2.frames = 11 ∧ x.1.2.2.2.locals = 265) (hC : x.2.2.2.2.2 = (fun _ => false)) (hxt : (∀ z ∈ x.2.2.1.2.1.exceptionTable.toList, False)) : Snd x 0 (bJ5_append_0 E Q) := by
  unfold bJ5_append_0
  refine s_aload_n rfl G.b dJ5_append_0 ?_
  refine s_iload_n rfl G.b dJ5_append_1 ?_
  refine s_callSU (by decide) G (mJ4_append EN) q1132 q2346 q258 q1133 q84 q1134 (by decide) nmk_48 (rm_of hF (Nat.le_of_ble_eq_true rfl) (Nat.le_of_ble_eq_true rfl)) dJ5_append_2 ?_ (sx_out G (fun z hz => (hxt z hz).elim))
  refine s_pop G.b dJ5_append_5 ?_
  refine s_aload_n rfl G.b dJ5_append_6 ?_
  exact s_areturn (Or.inl ⟨_, rfl⟩) G dJ5_append_7
set_option maxHeartbeats 4000000 in
theorem mJ5_append {l : Launch} {D : DE} {s0 : State} {E : Nat → Value} (EN : EV l D s0 E) : rMet l D s0 yJ5_append (ws_ yJ5_append cJ5_append 2 (Option.some (Jvm.ClassFile.FieldType.object "java/lang/StringBuilder"))) 11 265 (wJ5_append E) := by
  refine body_met (fun _ => false) EN.kn (fun w h => h) (by decide +kernel) rfl (fun av h Q hw => ?_) ?_
  · unfold wJ5_append at hw
    split at hw
    · exact Nat.le_of_ble_eq_true rfl
    · exact hw.elim
  · intro p e s m below meth c av h Q hxt G hw
    unfold wJ5_append at hw
    split at hw
    · exact tJ5_append_0 EN G ⟨rfl, rfl⟩ rfl hxt _ _ _ hw
    · exact hw.elim
/-! ChantRules.append(I)I (X0_append) -/
theorem nmk_49 : nm_ok yJ5_append 1 := ⟨by decide +kernel, by decide +kernel, by decide +kernel⟩
theorem nmk_50 : nm_ok yX0_isIn 3 := ⟨by decide +kernel, by decide +kernel, by decide +kernel⟩
def bX0_append_29 (E : Nat → Value) (Q : Rs → HS → Prop) : Ct :=
  o_aload 0 <|
  o_getf [0] 8 <|
  o_iload 1 <|
  o_i2c <|
  o_callV [18] 2 (wJ5_append E) (x_out Q) <|
  o_pop <|
  o_aload 0 <|
  o_getf [0] 8 <|
  o_callV [18] 1 (wJ5_length E) (x_out Q) <|
  o_ireturn .int Q
def bX0_append_14 (E : Nat → Value) (Q : Rs → HS → Prop) : Ct :=
  o_aload 0 <|
  o_getf [0] 8 <|
  o_callV [18] 1 (wJ5_length E) (x_out Q) <|
  o_push (.int 60) <|
  o_icmpne (bX0_append_29 E Q) <|
  o_push (.int (-13)) <|
  o_ireturn .int Q
def bX0_append_0 (E : Nat → Value) (Q : Rs → HS → Prop) : Ct :=
  o_iload 1 <|
  o_push (.int 32) <|
  o_push (.int 126) <|
  o_call 3 (wX0_isIn E) (x_out Q) <|
  o_ifne (bX0_append_14 E Q) <|
  o_push (.int (-12)) <|
  o_ireturn .int Q
def wX0_append (E : Nat → Value) : Wp := fun av h Q => match av with
  | [a0, a1] => bX0_append_0 E Q [a0, a1] [] h
  | _ => False
set_option maxHeartbeats 4000000 in
theorem tX0_append_29 {x : CX} {E : Nat → Value} {Q : Rs → HS → Prop} (EN : EX x E) (G : Gd x cX0_append "ChantRules" yX0_append 2 (Option.some Jvm.ClassFile.FieldType.int) Q) (hF : x.1.2.2.2.frames = 12 ∧ x.1.2.2.2.locals = 286) (hC : x.2.2.2.2.2 = (fun _ => false)) (hxt : (∀ z ∈ x.2.2.1.2.1.exceptionTable.toList, False)) : Snd x 29 (bX0_append_29 E Q) := by
  unfold bX0_append_29
  refine s_aload_n rfl G.b dX0_append_29 ?_
  refine s_getf G.b G.ow G.kn (G.hts _ q307) (fun _ h => h) fa_13 dX0_append_30 ?_
  refine s_iload_n rfl G.b dX0_append_33 ?_
  refine s_i2c G.b dX0_append_34 ?_
  refine s_callV G (mJ5_append EN) q1425 q1129 (sel_cons (r := (RJ5, TJ5, 4)) (by decide) rfl q1130 (sel_nil)) q85 q1131 nmk_49 (rm_of hF (Nat.le_of_ble_eq_true rfl) (Nat.le_of_ble_eq_true rfl)) dX0_append_35 ?_ (sx_out G (fun z hz => (hxt z hz).elim))
  refine s_pop G.b dX0_append_38 ?_
  refine s_aload_n rfl G.b dX0_append_39 ?_
  refine s_getf G.b G.ow G.kn (G.hts _ q307) (fun _ h => h) fa_13 dX0_append_40 ?_
  refine s_callV G (mJ5_length EN) q936 q937 (sel_cons (r := (RJ5, TJ5, 4)) (by decide) rfl q938 (sel_nil)) q85 q939 nmk_24 (rm_of hF (Nat.le_of_ble_eq_true rfl) (Nat.le_of_ble_eq_true rfl)) dX0_append_43 ?_ (sx_out G (fun z hz => (hxt z hz).elim))
  exact s_ireturn G dX0_append_46
set_option maxHeartbeats 4000000 in
theorem tX0_append_14 {x : CX} {E : Nat → Value} {Q : Rs → HS → Prop} (EN : EX x E) (G : Gd x cX0_append "ChantRules" yX0_append 2 (Option.some Jvm.ClassFile.FieldType.int) Q) (hF : x.1.2.2.2.frames = 12 ∧ x.1.2.2.2.locals = 286) (hC : x.2.2.2.2.2 = (fun _ => false)) (hxt : (∀ z ∈ x.2.2.1.2.1.exceptionTable.toList, False)) : Snd x 14 (bX0_append_14 E Q) := by
  unfold bX0_append_14
  refine s_aload_n rfl G.b dX0_append_14 ?_
  refine s_getf G.b G.ow G.kn (G.hts _ q307) (fun _ h => h) fa_13 dX0_append_15 ?_
  refine s_callV G (mJ5_length EN) q936 q937 (sel_cons (r := (RJ5, TJ5, 4)) (by decide) rfl q938 (sel_nil)) q85 q939 nmk_24 (rm_of hF (Nat.le_of_ble_eq_true rfl) (Nat.le_of_ble_eq_true rfl)) dX0_append_18 ?_ (sx_out G (fun z hz => (hxt z hz).elim))
  refine s_bipush (by decide) G.b dX0_append_21 ?_
  refine s_icmpne (tgt := 29) G.b dX0_append_23 (by decide) (tX0_append_29 EN G hF hC hxt) ?_
  refine s_bipush (by decide) G.b dX0_append_26 ?_
  exact s_ireturn G dX0_append_28
set_option maxHeartbeats 4000000 in
theorem tX0_append_0 {x : CX} {E : Nat → Value} {Q : Rs → HS → Prop} (EN : EX x E) (G : Gd x cX0_append "ChantRules" yX0_append 2 (Option.some Jvm.ClassFile.FieldType.int) Q) (hF : x.1.2.2.2.frames = 12 ∧ x.1.2.2.2.locals = 286) (hC : x.2.2.2.2.2 = (fun _ => false)) (hxt : (∀ z ∈ x.2.2.1.2.1.exceptionTable.toList, False)) : Snd x 0 (bX0_append_0 E Q) := by
  unfold bX0_append_0
  refine s_iload_n rfl G.b dX0_append_0 ?_
  refine s_bipush (by decide) G.b dX0_append_1 ?_
  refine s_bipush (by decide) G.b dX0_append_3 ?_
  refine s_callS G (mX0_isIn EN) q339 q340 q76 q341 nmk_50 (rm_of hF (Nat.le_of_ble_eq_true rfl) (Nat.le_of_ble_eq_true rfl)) dX0_append_5 ?_ (sx_out G (fun z hz => (hxt z hz).elim))
  refine s_ifne (tgt := 14) G.b dX0_append_8 (by decide) (tX0_append_14 EN G hF hC hxt) ?_
  refine s_bipush (by decide) G.b dX0_append_11 ?_
  exact s_ireturn G dX0_append_13
set_option maxHeartbeats 4000000 in
theorem mX0_append {l : Launch} {D : DE} {s0 : State} {E : Nat → Value} (EN : EV l D s0 E) : rMet l D s0 yX0_append (ws_ yX0_append cX0_append 2 (Option.some Jvm.ClassFile.FieldType.int)) 12 286 (wX0_append E) := by
  refine body_met (fun _ => false) EN.kn (fun w h => h) (by decide +kernel) rfl (fun av h Q hw => ?_) ?_
  · unfold wX0_append at hw
    split at hw
    · exact Nat.le_of_ble_eq_true rfl
    · exact hw.elim
  · intro p e s m below meth c av h Q hxt G hw
    unfold wX0_append at hw
    split at hw
    · exact tX0_append_0 EN G ⟨rfl, rfl⟩ rfl hxt _ _ _ hw
    · exact hw.elim
/-! ChantRules$Breathed.<init>(IIII)V (X7_init) -/
theorem fa_29 : fieldAt [10] 0 "ChantRules$Breathed" "from" "I" := fa_cons (r := (RX7, TX7, 4)) rfl (by decide) rfl rfl rfl (fa_nil)
theorem fa_30 : fieldAt [10] 1 "ChantRules$Breathed" "to" "I" := fa_cons (r := (RX7, TX7, 4)) rfl (by decide) rfl rfl rfl (fa_nil)
theorem fa_31 : fieldAt [10] 2 "ChantRules$Breathed" "sings" "I" := fa_cons (r := (RX7, TX7, 4)) rfl (by decide) rfl rfl rfl (fa_nil)
def bX7_init_0 (E : Nat → Value) (Q : Rs → HS → Prop) : Ct :=
  o_aload 0 <|
  o_objInit <|
  o_aload 0 <|
  o_iload 1 <|
  o_putf [10] 0 .int <|
  o_aload 0 <|
  o_iload 2 <|
  o_putf [10] 1 .int <|
  o_aload 0 <|
  o_iload 3 <|
  o_putf [10] 2 .int <|
  o_aload 0 <|
  o_iload 4 <|
  o_putf [10] 3 .int <|
  o_return Q
def wX7_init (E : Nat → Value) : Wp := fun av h Q => match av with
  | [a0, a1, a2, a3, a4] => bX7_init_0 E Q [a0, a1, a2, a3, a4] [] h
  | _ => False
set_option maxHeartbeats 4000000 in
theorem tX7_init_0 {x : CX} {E : Nat → Value} {Q : Rs → HS → Prop} (EN : EX x E) (G : Gd x cX7_init "ChantRules$Breathed" yX7_init 5 (Option.none : Option Jvm.ClassFile.FieldType) Q) (hF : x.1.2.2.2.frames = 2 ∧ x.1.2.2.2.locals = 64) (hC : x.2.2.2.2.2 = (fun _ => false)) (hxt : (∀ z ∈ x.2.2.1.2.1.exceptionTable.toList, False)) : Snd x 0 (bX7_init_0 E Q) := by
  unfold bX7_init_0
  refine s_aload_n rfl G.b dX7_init_0 ?_
  refine s_objInit G.b G.ow G.hts q638 q122 q123 G.ml (by rw [hF.1]; decide) (by rw [hF.2]; decide) dX7_init_1 ?_
  refine s_aload_n rfl G.b dX7_init_4 ?_
  refine s_iload_n rfl G.b dX7_init_5 ?_
  refine s_putfF (r0 := (RX7, TX7, 4)) G.b G.ow G.kn (G.hts _ q639) (by rw [G.name]; rfl) rfl (by decide) (by decide) rfl (G.hts _ q647) (by decide +kernel) dX7_init_6 ?_
  refine s_aload_n rfl G.b dX7_init_9 ?_
  refine s_iload_n rfl G.b dX7_init_10 ?_
  refine s_putfF (r0 := (RX7, TX7, 4)) G.b G.ow G.kn (G.hts _ q641) (by rw [G.name]; rfl) rfl (by decide) (by decide) rfl (G.hts _ q649) (by decide +kernel) dX7_init_11 ?_
  refine s_aload_n rfl G.b dX7_init_14 ?_
  refine s_iload_n rfl G.b dX7_init_15 ?_
  refine s_putfF (r0 := (RX7, TX7, 4)) G.b G.ow G.kn (G.hts _ q643) (by rw [G.name]; rfl) rfl (by decide) (by decide) rfl (G.hts _ q651) (by decide +kernel) dX7_init_16 ?_
  refine s_aload_n rfl G.b dX7_init_19 ?_
  refine s_iload G.b dX7_init_20 ?_
  refine s_putfF (r0 := (RX7, TX7, 4)) G.b G.ow G.kn (G.hts _ q645) (by rw [G.name]; rfl) rfl (by decide) (by decide) rfl (G.hts _ q653) (by decide +kernel) dX7_init_22 ?_
  exact s_return G dX7_init_25
set_option maxHeartbeats 4000000 in
theorem mX7_init {l : Launch} {D : DE} {s0 : State} {E : Nat → Value} (EN : EV l D s0 E) : rMet l D s0 yX7_init (ws_ yX7_init cX7_init 5 (Option.none : Option Jvm.ClassFile.FieldType)) 2 64 (wX7_init E) := by
  refine body_met (fun _ => false) EN.kn (fun w h => h) (by decide +kernel) rfl (fun av h Q hw => ?_) ?_
  · unfold wX7_init at hw
    split at hw
    · exact Nat.le_of_ble_eq_true rfl
    · exact hw.elim
  · intro p e s m below meth c av h Q hxt G hw
    unfold wX7_init at hw
    split at hw
    · exact tX7_init_0 EN G ⟨rfl, rfl⟩ rfl hxt _ _ _ hw
    · exact hw.elim
/-! ChantRules$Heard.<init>(IIIII)V (X8_init) -/
theorem fa_32 : fieldAt [11] 0 "ChantRules$Heard" "from" "I" := fa_cons (r := (RX8, TX8, 5)) rfl (by decide) rfl rfl rfl (fa_nil)
theorem fa_33 : fieldAt [11] 1 "ChantRules$Heard" "to" "I" := fa_cons (r := (RX8, TX8, 5)) rfl (by decide) rfl rfl rfl (fa_nil)
theorem fa_34 : fieldAt [11] 3 "ChantRules$Heard" "sings" "I" := fa_cons (r := (RX8, TX8, 5)) rfl (by decide) rfl rfl rfl (fa_nil)
def bX8_init_0 (E : Nat → Value) (Q : Rs → HS → Prop) : Ct :=
  o_aload 0 <|
  o_objInit <|
  o_aload 0 <|
  o_iload 1 <|
  o_putf [11] 0 .int <|
  o_aload 0 <|
  o_iload 2 <|
  o_putf [11] 1 .int <|
  o_aload 0 <|
  o_iload 3 <|
  o_putf [11] 2 .int <|
  o_aload 0 <|
  o_iload 4 <|
  o_putf [11] 3 .int <|
  o_aload 0 <|
  o_iload 5 <|
  o_putf [11] 4 .int <|
  o_return Q
def wX8_init (E : Nat → Value) : Wp := fun av h Q => match av with
  | [a0, a1, a2, a3, a4, a5] => bX8_init_0 E Q [a0, a1, a2, a3, a4, a5] [] h
  | _ => False
set_option maxHeartbeats 4000000 in
theorem tX8_init_0 {x : CX} {E : Nat → Value} {Q : Rs → HS → Prop} (EN : EX x E) (G : Gd x cX8_init "ChantRules$Heard" yX8_init 6 (Option.none : Option Jvm.ClassFile.FieldType) Q) (hF : x.1.2.2.2.frames = 2 ∧ x.1.2.2.2.locals = 64) (hC : x.2.2.2.2.2 = (fun _ => false)) (hxt : (∀ z ∈ x.2.2.1.2.1.exceptionTable.toList, False)) : Snd x 0 (bX8_init_0 E Q) := by
  unfold bX8_init_0
  refine s_aload_n rfl G.b dX8_init_0 ?_
  refine s_objInit G.b G.ow G.hts q661 q122 q123 G.ml (by rw [hF.1]; decide) (by rw [hF.2]; decide) dX8_init_1 ?_
  refine s_aload_n rfl G.b dX8_init_4 ?_
  refine s_iload_n rfl G.b dX8_init_5 ?_
  refine s_putfF (r0 := (RX8, TX8, 5)) G.b G.ow G.kn (G.hts _ q662) (by rw [G.name]; rfl) rfl (by decide) (by decide) rfl (G.hts _ q669) (by decide +kernel) dX8_init_6 ?_
  refine s_aload_n rfl G.b dX8_init_9 ?_
  refine s_iload_n rfl G.b dX8_init_10 ?_
  refine s_putfF (r0 := (RX8, TX8, 5)) G.b G.ow G.kn (G.hts _ q663) (by rw [G.name]; rfl) rfl (by decide) (by decide) rfl (G.hts _ q671) (by decide +kernel) dX8_init_11 ?_
  refine s_aload_n rfl G.b dX8_init_14 ?_
  refine s_iload_n rfl G.b dX8_init_15 ?_
  refine s_putfF (r0 := (RX8, TX8, 5)) G.b G.ow G.kn (G.hts _ q664) (by rw [G.name]; rfl) rfl (by decide) (by decide) rfl (G.hts _ q673) (by decide +kernel) dX8_init_16 ?_
  refine s_aload_n rfl G.b dX8_init_19 ?_
  refine s_iload G.b dX8_init_20 ?_
  refine s_putfF (r0 := (RX8, TX8, 5)) G.b G.ow G.kn (G.hts _ q667) (by rw [G.name]; rfl) rfl (by decide) (by decide) rfl (G.hts _ q675) (by decide +kernel) dX8_init_22 ?_
  refine s_aload_n rfl G.b dX8_init_25 ?_
  refine s_iload G.b dX8_init_26 ?_
  refine s_putfF (r0 := (RX8, TX8, 5)) G.b G.ow G.kn (G.hts _ q668) (by rw [G.name]; rfl) rfl (by decide) (by decide) rfl (G.hts _ q677) (by decide +kernel) dX8_init_28 ?_
  exact s_return G dX8_init_31
set_option maxHeartbeats 4000000 in
theorem mX8_init {l : Launch} {D : DE} {s0 : State} {E : Nat → Value} (EN : EV l D s0 E) : rMet l D s0 yX8_init (ws_ yX8_init cX8_init 6 (Option.none : Option Jvm.ClassFile.FieldType)) 2 64 (wX8_init E) := by
  refine body_met (fun _ => false) EN.kn (fun w h => h) (by decide +kernel) rfl (fun av h Q hw => ?_) ?_
  · unfold wX8_init at hw
    split at hw
    · exact Nat.le_of_ble_eq_true rfl
    · exact hw.elim
  · intro p e s m below meth c av h Q hxt G hw
    unfold wX8_init at hw
    split at hw
    · exact tX8_init_0 EN G ⟨rfl, rfl⟩ rfl hxt _ _ _ hw
    · exact hw.elim
