set_option maxRecDepth 100000
/-! ChantRulesModel.sing(I)I (X5_sing) -/
theorem nmk_295 : nm_ok yX5_songs 0 := ⟨by decide +kernel, by decide +kernel, by decide +kernel⟩
def bX5_sing_41 (E : Nat → Value) (Q : Rs → HS → Prop) : Ct :=
  o_ireturn .int Q
def bX5_sing_39 (E : Nat → Value) (Q : Rs → HS → Prop) : Ct :=
  o_push (.int (-15)) <|
  (bX5_sing_41 E Q)
def bX5_sing_20 (E : Nat → Value) (Q : Rs → HS → Prop) : Ct :=
  o_aload 0 <|
  o_iload 1 <|
  o_callV [8] 2 (wX5_laysRule E) (x_out Q) <|
  o_aload 0 <|
  o_callV [8] 1 (wX5_reads E) (x_out Q) <|
  o_ifeq (bX5_sing_39 E Q) <|
  o_aload 0 <|
  o_callV [8] 1 (wX5_songs E) (x_out Q) <|
  (bX5_sing_41 E Q)
def bX5_sing_10 (E : Nat → Value) (Q : Rs → HS → Prop) : Ct :=
  o_aload 0 <|
  o_callV [8] 1 (wX5_isWord E) (x_out Q) <|
  o_ifne (bX5_sing_20 E Q) <|
  o_push (.int (-12)) <|
  o_ireturn .int Q
def bX5_sing_0 (E : Nat → Value) (Q : Rs → HS → Prop) : Ct :=
  o_iload 1 <|
  o_call 1 (wX5_isRule E) (x_out Q) <|
  o_ifne (bX5_sing_10 E Q) <|
  o_push (.int (-11)) <|
  o_ireturn .int Q
def wX5_sing (E : Nat → Value) : Wp := fun av h Q => match av with
  | [a0, a1] => bX5_sing_0 E Q [a0, a1] [] h
  | _ => False
set_option maxHeartbeats 4000000 in
theorem tX5_sing_41 {x : CX} {E : Nat → Value} {Q : Rs → HS → Prop} (EN : EX x E) (G : Gd x cX5_sing "ChantRulesModel" yX5_sing 2 (Option.some Jvm.ClassFile.FieldType.int) Q) (hF : x.1.2.2.2.frames = 6 ∧ x.1.2.2.2.locals = 165) (hC : x.2.2.2.2.2 = (fun _ => false)) (hxt : (∀ z ∈ x.2.2.1.2.1.exceptionTable.toList, False)) : Snd x 41 (bX5_sing_41 E Q) := by
  unfold bX5_sing_41
  exact s_ireturn G dX5_sing_41
set_option maxHeartbeats 4000000 in
theorem tX5_sing_39 {x : CX} {E : Nat → Value} {Q : Rs → HS → Prop} (EN : EX x E) (G : Gd x cX5_sing "ChantRulesModel" yX5_sing 2 (Option.some Jvm.ClassFile.FieldType.int) Q) (hF : x.1.2.2.2.frames = 6 ∧ x.1.2.2.2.locals = 165) (hC : x.2.2.2.2.2 = (fun _ => false)) (hxt : (∀ z ∈ x.2.2.1.2.1.exceptionTable.toList, False)) : Snd x 39 (bX5_sing_39 E Q) := by
  unfold bX5_sing_39
  refine s_bipush (by decide) G.b dX5_sing_39 ?_
  exact (tX5_sing_41 EN G hF hC hxt)
set_option maxHeartbeats 4000000 in
theorem tX5_sing_20 {x : CX} {E : Nat → Value} {Q : Rs → HS → Prop} (EN : EX x E) (G : Gd x cX5_sing "ChantRulesModel" yX5_sing 2 (Option.some Jvm.ClassFile.FieldType.int) Q) (hF : x.1.2.2.2.frames = 6 ∧ x.1.2.2.2.locals = 165) (hC : x.2.2.2.2.2 = (fun _ => false)) (hxt : (∀ z ∈ x.2.2.1.2.1.exceptionTable.toList, False)) : Snd x 20 (bX5_sing_20 E Q) := by
  unfold bX5_sing_20
  refine s_aload_n rfl G.b dX5_sing_20 ?_
  refine s_iload_n rfl G.b dX5_sing_21 ?_
  refine s_callV G (mX5_laysRule EN) q2118 q2120 (sel_cons (r := (RX5, TX5, 37)) (by decide) rfl qs46 (sel_nil)) q90 q2121 nmk_274 (rm_of hF (Nat.le_of_ble_eq_true rfl) (Nat.le_of_ble_eq_true rfl)) dX5_sing_22 ?_ (sx_out G (fun z hz => (hxt z hz).elim))
  refine s_aload_n rfl G.b dX5_sing_25 ?_
  refine s_callV G (mX5_reads EN) q2146 q2148 (sel_cons (r := (RX5, TX5, 37)) (by decide) rfl qs52 (sel_nil)) q90 q2149 nmk_270 (rm_of hF (Nat.le_of_ble_eq_true rfl) (Nat.le_of_ble_eq_true rfl)) dX5_sing_26 ?_ (sx_out G (fun z hz => (hxt z hz).elim))
  refine s_ifeq (tgt := 39) G.b dX5_sing_29 (by decide) (tX5_sing_39 EN G hF hC hxt) ?_
  refine s_aload_n rfl G.b dX5_sing_32 ?_
  refine s_callV G (mX5_songs EN) q2170 q2172 (sel_cons (r := (RX5, TX5, 37)) (by decide) rfl qs57 (sel_nil)) q90 q2173 nmk_295 (rm_of hF (Nat.le_of_ble_eq_true rfl) (Nat.le_of_ble_eq_true rfl)) dX5_sing_33 ?_ (sx_out G (fun z hz => (hxt z hz).elim))
  exact s_goto (tgt := 41) G.b dX5_sing_36 (by decide) (tX5_sing_41 EN G hF hC hxt)
set_option maxHeartbeats 4000000 in
theorem tX5_sing_10 {x : CX} {E : Nat → Value} {Q : Rs → HS → Prop} (EN : EX x E) (G : Gd x cX5_sing "ChantRulesModel" yX5_sing 2 (Option.some Jvm.ClassFile.FieldType.int) Q) (hF : x.1.2.2.2.frames = 6 ∧ x.1.2.2.2.locals = 165) (hC : x.2.2.2.2.2 = (fun _ => false)) (hxt : (∀ z ∈ x.2.2.1.2.1.exceptionTable.toList, False)) : Snd x 10 (bX5_sing_10 E Q) := by
  unfold bX5_sing_10
  refine s_aload_n rfl G.b dX5_sing_10 ?_
  refine s_callV G (mX5_isWord EN) q2142 q2144 (sel_cons (r := (RX5, TX5, 37)) (by decide) rfl qs51 (sel_nil)) q90 q2145 nmk_271 (rm_of hF (Nat.le_of_ble_eq_true rfl) (Nat.le_of_ble_eq_true rfl)) dX5_sing_11 ?_ (sx_out G (fun z hz => (hxt z hz).elim))
  refine s_ifne (tgt := 20) G.b dX5_sing_14 (by decide) (tX5_sing_20 EN G hF hC hxt) ?_
  refine s_bipush (by decide) G.b dX5_sing_17 ?_
  exact s_ireturn G dX5_sing_19
set_option maxHeartbeats 4000000 in
theorem tX5_sing_0 {x : CX} {E : Nat → Value} {Q : Rs → HS → Prop} (EN : EX x E) (G : Gd x cX5_sing "ChantRulesModel" yX5_sing 2 (Option.some Jvm.ClassFile.FieldType.int) Q) (hF : x.1.2.2.2.frames = 6 ∧ x.1.2.2.2.locals = 165) (hC : x.2.2.2.2.2 = (fun _ => false)) (hxt : (∀ z ∈ x.2.2.1.2.1.exceptionTable.toList, False)) : Snd x 0 (bX5_sing_0 E Q) := by
  unfold bX5_sing_0
  refine s_iload_n rfl G.b dX5_sing_0 ?_
  refine s_callS G (mX5_isRule EN) q2030 q2031 q90 q2032 nmk_253 (rm_of hF (Nat.le_of_ble_eq_true rfl) (Nat.le_of_ble_eq_true rfl)) dX5_sing_1 ?_ (sx_out G (fun z hz => (hxt z hz).elim))
  refine s_ifne (tgt := 10) G.b dX5_sing_4 (by decide) (tX5_sing_10 EN G hF hC hxt) ?_
  refine s_bipush (by decide) G.b dX5_sing_7 ?_
  exact s_ireturn G dX5_sing_9
set_option maxHeartbeats 4000000 in
theorem mX5_sing {l : Launch} {D : DE} {s0 : State} {E : Nat → Value} (EN : EV l D s0 E) : rMet l D s0 yX5_sing (ws_ yX5_sing cX5_sing 2 (Option.some Jvm.ClassFile.FieldType.int)) 6 165 (wX5_sing E) := by
  refine body_met (fun _ => false) EN.kn (fun w h => h) (by decide +kernel) rfl (fun av h Q hw => ?_) ?_
  · unfold wX5_sing at hw
    split at hw
    · exact Nat.le_of_ble_eq_true rfl
    · exact hw.elim
  · intro p e s m below meth c av h Q hxt G hw
    unfold wX5_sing at hw
    split at hw
    · exact tX5_sing_0 EN G ⟨rfl, rfl⟩ rfl hxt _ _ _ hw
    · exact hw.elim
/-! ChantRulesModel.singBoth()I (X5_singBoth) -/
def bX5_singBoth_30 (E : Nat → Value) (Q : Rs → HS → Prop) : Ct :=
  o_ireturn .int Q
def bX5_singBoth_28 (E : Nat → Value) (Q : Rs → HS → Prop) : Ct :=
  o_push (.int (-15)) <|
  (bX5_singBoth_30 E Q)
def bX5_singBoth_10 (E : Nat → Value) (Q : Rs → HS → Prop) : Ct :=
  o_aload 0 <|
  o_callV [8] 1 (wX5_laysBoth E) (x_out Q) <|
  o_aload 0 <|
  o_callV [8] 1 (wX5_reads E) (x_out Q) <|
  o_ifeq (bX5_singBoth_28 E Q) <|
  o_aload 0 <|
  o_callV [8] 1 (wX5_songs E) (x_out Q) <|
  (bX5_singBoth_30 E Q)
def bX5_singBoth_0 (E : Nat → Value) (Q : Rs → HS → Prop) : Ct :=
  o_aload 0 <|
  o_callV [8] 1 (wX5_isWord E) (x_out Q) <|
  o_ifne (bX5_singBoth_10 E Q) <|
  o_push (.int (-12)) <|
  o_ireturn .int Q
def wX5_singBoth (E : Nat → Value) : Wp := fun av h Q => match av with
  | [a0] => bX5_singBoth_0 E Q [a0] [] h
  | _ => False
set_option maxHeartbeats 4000000 in
theorem tX5_singBoth_30 {x : CX} {E : Nat → Value} {Q : Rs → HS → Prop} (EN : EX x E) (G : Gd x cX5_singBoth "ChantRulesModel" yX5_singBoth 1 (Option.some Jvm.ClassFile.FieldType.int) Q) (hF : x.1.2.2.2.frames = 6 ∧ x.1.2.2.2.locals = 165) (hC : x.2.2.2.2.2 = (fun _ => false)) (hxt : (∀ z ∈ x.2.2.1.2.1.exceptionTable.toList, False)) : Snd x 30 (bX5_singBoth_30 E Q) := by
  unfold bX5_singBoth_30
  exact s_ireturn G dX5_singBoth_30
set_option maxHeartbeats 4000000 in
theorem tX5_singBoth_28 {x : CX} {E : Nat → Value} {Q : Rs → HS → Prop} (EN : EX x E) (G : Gd x cX5_singBoth "ChantRulesModel" yX5_singBoth 1 (Option.some Jvm.ClassFile.FieldType.int) Q) (hF : x.1.2.2.2.frames = 6 ∧ x.1.2.2.2.locals = 165) (hC : x.2.2.2.2.2 = (fun _ => false)) (hxt : (∀ z ∈ x.2.2.1.2.1.exceptionTable.toList, False)) : Snd x 28 (bX5_singBoth_28 E Q) := by
  unfold bX5_singBoth_28
  refine s_bipush (by decide) G.b dX5_singBoth_28 ?_
  exact (tX5_singBoth_30 EN G hF hC hxt)
set_option maxHeartbeats 4000000 in
theorem tX5_singBoth_10 {x : CX} {E : Nat → Value} {Q : Rs → HS → Prop} (EN : EX x E) (G : Gd x cX5_singBoth "ChantRulesModel" yX5_singBoth 1 (Option.some Jvm.ClassFile.FieldType.int) Q) (hF : x.1.2.2.2.frames = 6 ∧ x.1.2.2.2.locals = 165) (hC : x.2.2.2.2.2 = (fun _ => false)) (hxt : (∀ z ∈ x.2.2.1.2.1.exceptionTable.toList, False)) : Snd x 10 (bX5_singBoth_10 E Q) := by
  unfold bX5_singBoth_10
  refine s_aload_n rfl G.b dX5_singBoth_10 ?_
  refine s_callV G (mX5_laysBoth EN) q2182 q2184 (sel_cons (r := (RX5, TX5, 37)) (by decide) rfl qs59 (sel_nil)) q90 q2185 nmk_269 (rm_of hF (Nat.le_of_ble_eq_true rfl) (Nat.le_of_ble_eq_true rfl)) dX5_singBoth_11 ?_ (sx_out G (fun z hz => (hxt z hz).elim))
  refine s_aload_n rfl G.b dX5_singBoth_14 ?_
  refine s_callV G (mX5_reads EN) q2146 q2148 (sel_cons (r := (RX5, TX5, 37)) (by decide) rfl qs52 (sel_nil)) q90 q2149 nmk_270 (rm_of hF (Nat.le_of_ble_eq_true rfl) (Nat.le_of_ble_eq_true rfl)) dX5_singBoth_15 ?_ (sx_out G (fun z hz => (hxt z hz).elim))
  refine s_ifeq (tgt := 28) G.b dX5_singBoth_18 (by decide) (tX5_singBoth_28 EN G hF hC hxt) ?_
  refine s_aload_n rfl G.b dX5_singBoth_21 ?_
  refine s_callV G (mX5_songs EN) q2170 q2172 (sel_cons (r := (RX5, TX5, 37)) (by decide) rfl qs57 (sel_nil)) q90 q2173 nmk_295 (rm_of hF (Nat.le_of_ble_eq_true rfl) (Nat.le_of_ble_eq_true rfl)) dX5_singBoth_22 ?_ (sx_out G (fun z hz => (hxt z hz).elim))
  exact s_goto (tgt := 30) G.b dX5_singBoth_25 (by decide) (tX5_singBoth_30 EN G hF hC hxt)
set_option maxHeartbeats 4000000 in
theorem tX5_singBoth_0 {x : CX} {E : Nat → Value} {Q : Rs → HS → Prop} (EN : EX x E) (G : Gd x cX5_singBoth "ChantRulesModel" yX5_singBoth 1 (Option.some Jvm.ClassFile.FieldType.int) Q) (hF : x.1.2.2.2.frames = 6 ∧ x.1.2.2.2.locals = 165) (hC : x.2.2.2.2.2 = (fun _ => false)) (hxt : (∀ z ∈ x.2.2.1.2.1.exceptionTable.toList, False)) : Snd x 0 (bX5_singBoth_0 E Q) := by
  unfold bX5_singBoth_0
  refine s_aload_n rfl G.b dX5_singBoth_0 ?_
  refine s_callV G (mX5_isWord EN) q2142 q2144 (sel_cons (r := (RX5, TX5, 37)) (by decide) rfl qs51 (sel_nil)) q90 q2145 nmk_271 (rm_of hF (Nat.le_of_ble_eq_true rfl) (Nat.le_of_ble_eq_true rfl)) dX5_singBoth_1 ?_ (sx_out G (fun z hz => (hxt z hz).elim))
  refine s_ifne (tgt := 10) G.b dX5_singBoth_4 (by decide) (tX5_singBoth_10 EN G hF hC hxt) ?_
  refine s_bipush (by decide) G.b dX5_singBoth_7 ?_
  exact s_ireturn G dX5_singBoth_9
set_option maxHeartbeats 4000000 in
theorem mX5_singBoth {l : Launch} {D : DE} {s0 : State} {E : Nat → Value} (EN : EV l D s0 E) : rMet l D s0 yX5_singBoth (ws_ yX5_singBoth cX5_singBoth 1 (Option.some Jvm.ClassFile.FieldType.int)) 6 165 (wX5_singBoth E) := by
  refine body_met (fun _ => false) EN.kn (fun w h => h) (by decide +kernel) rfl (fun av h Q hw => ?_) ?_
  · unfold wX5_singBoth at hw
    split at hw
    · exact Nat.le_of_ble_eq_true rfl
    · exact hw.elim
  · intro p e s m below meth c av h Q hxt G hw
    unfold wX5_singBoth at hw
    split at hw
    · exact tX5_singBoth_0 EN G ⟨rfl, rfl⟩ rfl hxt _ _ _ hw
    · exact hw.elim
/-! ChantRulesModel.state(I)I (X5_state) -/
def bX5_state_0 (E : Nat → Value) (Q : Rs → HS → Prop) : Ct :=
  o_aload 0 <|
  o_callV [8] 1 (wX5_begins E) (x_out Q) <|
  o_aload 0 <|
  o_aload 0 <|
  o_iload 1 <|
  o_callV [8] 2 (wX5_comes E) (x_out Q) <|
  o_callV [8] 2 (wX5_ends E) (x_out Q) <|
  o_ireturn .int Q
def wX5_state (E : Nat → Value) : Wp := fun av h Q => match av with
  | [a0, a1] => bX5_state_0 E Q [a0, a1] [] h
  | _ => False
set_option maxHeartbeats 4000000 in
theorem tX5_state_0 {x : CX} {E : Nat → Value} {Q : Rs → HS → Prop} (EN : EX x E) (G : Gd x cX5_state "ChantRulesModel" yX5_state 2 (Option.some Jvm.ClassFile.FieldType.int) Q) (hF : x.1.2.2.2.frames = 5 ∧ x.1.2.2.2.locals = 128) (hC : x.2.2.2.2.2 = (fun _ => false)) (hxt : (∀ z ∈ x.2.2.1.2.1.exceptionTable.toList, False)) : Snd x 0 (bX5_state_0 E Q) := by
  unfold bX5_state_0
  refine s_aload_n rfl G.b dX5_state_0 ?_
  refine s_callV G (mX5_begins EN) q2019 q2021 (sel_cons (r := (RX5, TX5, 37)) (by decide) rfl qs32 (sel_nil)) q90 q2022 nmk_258 (rm_of hF (Nat.le_of_ble_eq_true rfl) (Nat.le_of_ble_eq_true rfl)) dX5_state_1 ?_ (sx_out G (fun z hz => (hxt z hz).elim))
  refine s_aload_n rfl G.b dX5_state_4 ?_
  refine s_aload_n rfl G.b dX5_state_5 ?_
  refine s_iload_n rfl G.b dX5_state_6 ?_
  refine s_callV G (mX5_comes EN) q2026 q2028 (sel_cons (r := (RX5, TX5, 37)) (by decide) rfl qs33 (sel_nil)) q90 q2029 nmk_288 (rm_of hF (Nat.le_of_ble_eq_true rfl) (Nat.le_of_ble_eq_true rfl)) dX5_state_7 ?_ (sx_out G (fun z hz => (hxt z hz).elim))
  refine s_callV G (mX5_ends EN) q2047 q2049 (sel_cons (r := (RX5, TX5, 37)) (by decide) rfl qs36 (sel_nil)) q90 q2050 nmk_260 (rm_of hF (Nat.le_of_ble_eq_true rfl) (Nat.le_of_ble_eq_true rfl)) dX5_state_10 ?_ (sx_out G (fun z hz => (hxt z hz).elim))
  exact s_ireturn G dX5_state_13
set_option maxHeartbeats 4000000 in
theorem mX5_state {l : Launch} {D : DE} {s0 : State} {E : Nat → Value} (EN : EV l D s0 E) : rMet l D s0 yX5_state (ws_ yX5_state cX5_state 2 (Option.some Jvm.ClassFile.FieldType.int)) 5 128 (wX5_state E) := by
  refine body_met (fun _ => false) EN.kn (fun w h => h) (by decide +kernel) rfl (fun av h Q hw => ?_) ?_
  · unfold wX5_state at hw
    split at hw
    · exact Nat.le_of_ble_eq_true rfl
    · exact hw.elim
  · intro p e s m below meth c av h Q hxt G hw
    unfold wX5_state at hw
    split at hw
    · exact tX5_state_0 EN G ⟨rfl, rfl⟩ rfl hxt _ _ _ hw
    · exact hw.elim
/-! ChantRulesModel.leads(IZ)I (X5_leads) -/
def bX5_leads_53 (E : Nat → Value) (Q : Rs → HS → Prop) (X5 : Ct) : Ct :=
  o_iload 3 <|
  o_ireturn .int Q
def bX5_leads_45 (E : Nat → Value) (Q : Rs → HS → Prop) (X5 : Ct) : Ct :=
  o_iadd <|
  o_istore 3 <|
  o_iinc 4 1 <|
  X5
def bX5_leads_44 (E : Nat → Value) (Q : Rs → HS → Prop) (X5 : Ct) : Ct :=
  o_push (.int 0) <|
  (bX5_leads_45 E Q X5)
def bX5_leads_36 (E : Nat → Value) (Q : Rs → HS → Prop) (X5 : Ct) : Ct :=
  o_iload 1 <|
  o_icmpne (bX5_leads_44 E Q X5) <|
  o_push (.int 1) <|
  (bX5_leads_45 E Q X5)
def bX5_leads_29 (E : Nat → Value) (Q : Rs → HS → Prop) (X5 : Ct) : Ct :=
  o_aload 0 <|
  o_getf [8] 12 <|
  o_iload 4 <|
  o_ald [100] <|
  (bX5_leads_36 E Q X5)
def bX5_leads_5 (E : Nat → Value) (Q : Rs → HS → Prop) (X5 : Ct) : Ct :=
  o_iload 4 <|
  o_aload 0 <|
  o_getf [8] 17 <|
  o_icmpge (bX5_leads_53 E Q X5) <|
  o_iload 3 <|
  o_iload 2 <|
  o_ifeq (bX5_leads_29 E Q X5) <|
  o_aload 0 <|
  o_getf [8] 11 <|
  o_iload 4 <|
  o_ald [100] <|
  (bX5_leads_36 E Q X5)
def bX5_leads_0 (E : Nat → Value) (Q : Rs → HS → Prop) (X5 : Ct) : Ct :=
  o_push (.int 0) <|
  o_istore 3 <|
  o_push (.int 0) <|
  o_istore 4 <|
  X5
def wX5_leads (E : Nat → Value) : Wp := fun av h Q => match av with
  | [a0, a1, a2] => ∀ X5 : Ct, (∀ ls st h, bX5_leads_5 E Q X5 ls st h → X5 ls st h) → bX5_leads_0 E Q X5 [a0, a1, a2, jk, jk] [] h
  | _ => False
set_option maxHeartbeats 4000000 in
theorem tX5_leads_53 {x : CX} {E : Nat → Value} {Q : Rs → HS → Prop} {X5 : Ct} (EN : EX x E) (G : Gd x cX5_leads "ChantRulesModel" yX5_leads 5 (Option.some Jvm.ClassFile.FieldType.int) Q) (hF : x.1.2.2.2.frames = 2 ∧ x.1.2.2.2.locals = 64) (hC : x.2.2.2.2.2 = (fun _ => false)) (hxt : (∀ z ∈ x.2.2.1.2.1.exceptionTable.toList, False)) (h5 : Snd x 5 X5) : Snd x 53 (bX5_leads_53 E Q X5) := by
  unfold bX5_leads_53
  refine s_iload_n rfl G.b dX5_leads_53 ?_
  exact s_ireturn G dX5_leads_54
set_option maxHeartbeats 4000000 in
theorem tX5_leads_45 {x : CX} {E : Nat → Value} {Q : Rs → HS → Prop} {X5 : Ct} (EN : EX x E) (G : Gd x cX5_leads "ChantRulesModel" yX5_leads 5 (Option.some Jvm.ClassFile.FieldType.int) Q) (hF : x.1.2.2.2.frames = 2 ∧ x.1.2.2.2.locals = 64) (hC : x.2.2.2.2.2 = (fun _ => false)) (hxt : (∀ z ∈ x.2.2.1.2.1.exceptionTable.toList, False)) (h5 : Snd x 5 X5) : Snd x 45 (bX5_leads_45 E Q X5) := by
  unfold bX5_leads_45
  refine s_iadd G.b dX5_leads_45 ?_
  refine s_istore_n rfl G.b (by rw [G.nl]; decide) (fun _ _ => by rw [hC]) dX5_leads_46 ?_
  refine s_iinc (by decide) G.b (by rw [G.nl]; decide) (fun _ _ => by rw [hC]) dX5_leads_47 ?_
  exact s_goto (tgt := 5) G.b dX5_leads_50 (by decide) h5
set_option maxHeartbeats 4000000 in
theorem tX5_leads_44 {x : CX} {E : Nat → Value} {Q : Rs → HS → Prop} {X5 : Ct} (EN : EX x E) (G : Gd x cX5_leads "ChantRulesModel" yX5_leads 5 (Option.some Jvm.ClassFile.FieldType.int) Q) (hF : x.1.2.2.2.frames = 2 ∧ x.1.2.2.2.locals = 64) (hC : x.2.2.2.2.2 = (fun _ => false)) (hxt : (∀ z ∈ x.2.2.1.2.1.exceptionTable.toList, False)) (h5 : Snd x 5 X5) : Snd x 44 (bX5_leads_44 E Q X5) := by
  unfold bX5_leads_44
  refine s_iconst (by decide) G.b dX5_leads_44 ?_
  exact (tX5_leads_45 EN G hF hC hxt h5)
set_option maxHeartbeats 4000000 in
theorem tX5_leads_36 {x : CX} {E : Nat → Value} {Q : Rs → HS → Prop} {X5 : Ct} (EN : EX x E) (G : Gd x cX5_leads "ChantRulesModel" yX5_leads 5 (Option.some Jvm.ClassFile.FieldType.int) Q) (hF : x.1.2.2.2.frames = 2 ∧ x.1.2.2.2.locals = 64) (hC : x.2.2.2.2.2 = (fun _ => false)) (hxt : (∀ z ∈ x.2.2.1.2.1.exceptionTable.toList, False)) (h5 : Snd x 5 X5) : Snd x 36 (bX5_leads_36 E Q X5) := by
  unfold bX5_leads_36
  refine s_iload_n rfl G.b dX5_leads_36 ?_
  refine s_icmpne (tgt := 44) G.b dX5_leads_37 (by decide) (tX5_leads_44 EN G hF hC hxt h5) ?_
  refine s_iconst (by decide) G.b dX5_leads_40 ?_
  exact s_goto (tgt := 45) G.b dX5_leads_41 (by decide) (tX5_leads_45 EN G hF hC hxt h5)
set_option maxHeartbeats 4000000 in
theorem tX5_leads_29 {x : CX} {E : Nat → Value} {Q : Rs → HS → Prop} {X5 : Ct} (EN : EX x E) (G : Gd x cX5_leads "ChantRulesModel" yX5_leads 5 (Option.some Jvm.ClassFile.FieldType.int) Q) (hF : x.1.2.2.2.frames = 2 ∧ x.1.2.2.2.locals = 64) (hC : x.2.2.2.2.2 = (fun _ => false)) (hxt : (∀ z ∈ x.2.2.1.2.1.exceptionTable.toList, False)) (h5 : Snd x 5 X5) : Snd x 29 (bX5_leads_29 E Q X5) := by
  unfold bX5_leads_29
  refine s_aload_n rfl G.b dX5_leads_29 ?_
  refine s_getf G.b G.ow G.kn (G.hts _ q1915) (fun _ h => h) fa_88 dX5_leads_30 ?_
  refine s_iload G.b dX5_leads_33 ?_
  refine s_iald G.b G.kn dX5_leads_35 ?_
  exact (tX5_leads_36 EN G hF hC hxt h5)
set_option maxHeartbeats 4000000 in
theorem tX5_leads_5 {x : CX} {E : Nat → Value} {Q : Rs → HS → Prop} {X5 : Ct} (EN : EX x E) (G : Gd x cX5_leads "ChantRulesModel" yX5_leads 5 (Option.some Jvm.ClassFile.FieldType.int) Q) (hF : x.1.2.2.2.frames = 2 ∧ x.1.2.2.2.locals = 64) (hC : x.2.2.2.2.2 = (fun _ => false)) (hxt : (∀ z ∈ x.2.2.1.2.1.exceptionTable.toList, False)) (h5 : Snd x 5 X5) : Snd x 5 (bX5_leads_5 E Q X5) := by
  unfold bX5_leads_5
  refine s_iload G.b dX5_leads_5 ?_
  refine s_aload_n rfl G.b dX5_leads_7 ?_
  refine s_getf G.b G.ow G.kn (G.hts _ q1920) (fun _ h => h) fa_99 dX5_leads_8 ?_
  refine s_icmpge (tgt := 53) G.b dX5_leads_11 (by decide) (tX5_leads_53 EN G hF hC hxt h5) ?_
  refine s_iload_n rfl G.b dX5_leads_14 ?_
  refine s_iload_n rfl G.b dX5_leads_15 ?_
  refine s_ifeq (tgt := 29) G.b dX5_leads_16 (by decide) (tX5_leads_29 EN G hF hC hxt h5) ?_
  refine s_aload_n rfl G.b dX5_leads_19 ?_
  refine s_getf G.b G.ow G.kn (G.hts _ q1914) (fun _ h => h) fa_87 dX5_leads_20 ?_
  refine s_iload G.b dX5_leads_23 ?_
  refine s_iald G.b G.kn dX5_leads_25 ?_
  exact s_goto (tgt := 36) G.b dX5_leads_26 (by decide) (tX5_leads_36 EN G hF hC hxt h5)
set_option maxHeartbeats 4000000 in
theorem tX5_leads_0 {x : CX} {E : Nat → Value} {Q : Rs → HS → Prop} {X5 : Ct} (EN : EX x E) (G : Gd x cX5_leads "ChantRulesModel" yX5_leads 5 (Option.some Jvm.ClassFile.FieldType.int) Q) (hF : x.1.2.2.2.frames = 2 ∧ x.1.2.2.2.locals = 64) (hC : x.2.2.2.2.2 = (fun _ => false)) (hxt : (∀ z ∈ x.2.2.1.2.1.exceptionTable.toList, False)) (h5 : Snd x 5 X5) : Snd x 0 (bX5_leads_0 E Q X5) := by
  unfold bX5_leads_0
  refine s_iconst (by decide) G.b dX5_leads_0 ?_
  refine s_istore_n rfl G.b (by rw [G.nl]; decide) (fun _ _ => by rw [hC]) dX5_leads_1 ?_
  refine s_iconst (by decide) G.b dX5_leads_2 ?_
  refine s_istore G.b (by rw [G.nl]; decide) (fun _ _ => by rw [hC]) dX5_leads_3 ?_
  exact h5
set_option maxHeartbeats 4000000 in
theorem mX5_leads {l : Launch} {D : DE} {s0 : State} {E : Nat → Value} (EN : EV l D s0 E) : rMet l D s0 yX5_leads (ws_ yX5_leads cX5_leads 5 (Option.some Jvm.ClassFile.FieldType.int)) 2 64 (wX5_leads E) := by
  refine body_met (fun _ => false) EN.kn (fun w h => h) (by decide +kernel) rfl (fun av h Q hw => ?_) ?_
  · unfold wX5_leads at hw
    split at hw
    · exact Nat.le_of_ble_eq_true rfl
    · exact hw.elim
  · intro p e s m below meth c av h Q hxt G hw
    unfold wX5_leads at hw
    split at hw
    · exact tX5_leads_0 EN G ⟨rfl, rfl⟩ rfl hxt (fun _ _ _ h => h) _ _ _ (hw (AW _ 5) (tX5_leads_5 EN G ⟨rfl, rfl⟩ rfl hxt (fun _ _ _ h => h)))
    · exact hw.elim
/-! ChantRulesModel.stateOf(III)I (X5_stateOf) -/
theorem nmk_296 : nm_ok yX5_leads 2 := ⟨by decide +kernel, by decide +kernel, by decide +kernel⟩
def bX5_stateOf_118 (E : Nat → Value) (Q : Rs → HS → Prop) : Ct :=
  o_push (.int (-12)) <|
  o_ireturn .int Q
def bX5_stateOf_111 (E : Nat → Value) (Q : Rs → HS → Prop) : Ct :=
  o_aload 0 <|
  o_iload 2 <|
  o_push (.int 1) <|
  o_callV [8] 3 (wX5_byBreaths E) (x_out Q) <|
  o_ireturn .int Q
def bX5_stateOf_104 (E : Nat → Value) (Q : Rs → HS → Prop) : Ct :=
  o_aload 0 <|
  o_getf [8] 20 <|
  o_iload 2 <|
  o_ald [100] <|
  o_ireturn .int Q
def bX5_stateOf_97 (E : Nat → Value) (Q : Rs → HS → Prop) : Ct :=
  o_aload 0 <|
  o_getf [8] 19 <|
  o_iload 2 <|
  o_ald [100] <|
  o_ireturn .int Q
def bX5_stateOf_93 (E : Nat → Value) (Q : Rs → HS → Prop) : Ct :=
  o_callV [8] 3 (wX5_leads E) (x_out Q) <|
  o_ireturn .int Q
def bX5_stateOf_92 (E : Nat → Value) (Q : Rs → HS → Prop) : Ct :=
  o_push (.int 0) <|
  (bX5_stateOf_93 E Q)
def bX5_stateOf_81 (E : Nat → Value) (Q : Rs → HS → Prop) : Ct :=
  o_aload 0 <|
  o_iload 2 <|
  o_iload 3 <|
  o_push (.int 1) <|
  o_icmpne (bX5_stateOf_92 E Q) <|
  o_push (.int 1) <|
  (bX5_stateOf_93 E Q)
def bX5_stateOf_80 (E : Nat → Value) (Q : Rs → HS → Prop) : Ct :=
  o_ireturn .int Q
def bX5_stateOf_74 (E : Nat → Value) (Q : Rs → HS → Prop) : Ct :=
  o_aload 0 <|
  o_getf [8] 16 <|
  o_iload 2 <|
  o_ald [100] <|
  (bX5_stateOf_80 E Q)
def bX5_stateOf_60 (E : Nat → Value) (Q : Rs → HS → Prop) : Ct :=
  o_aload 0 <|
  o_getf [8] 16 <|
  o_iload 2 <|
  o_ald [100] <|
  o_ifge (bX5_stateOf_74 E Q) <|
  o_push (.int (-15)) <|
  (bX5_stateOf_80 E Q)
def bX5_stateOf_12 (E : Nat → Value) (Q : Rs → HS → Prop) : Ct :=
  o_aload 0 <|
  o_iload 1 <|
  o_callV [8] 2 (wX5_laysRule E) (x_out Q) <|
  o_aload 0 <|
  o_callV [8] 1 (wX5_finds E) (x_out Q) <|
  o_iload 3 <|
  o_sw [(0, (bX5_stateOf_60 E Q)), (1, (bX5_stateOf_81 E Q)), (2, (bX5_stateOf_81 E Q)), (3, (bX5_stateOf_97 E Q)), (4, (bX5_stateOf_104 E Q)), (5, (bX5_stateOf_111 E Q))] (bX5_stateOf_118 E Q)
def bX5_stateOf_0 (E : Nat → Value) (Q : Rs → HS → Prop) : Ct :=
  o_aload 0 <|
  o_iload 1 <|
  o_iload 2 <|
  o_callV [8] 3 (wX5_isState E) (x_out Q) <|
  o_ifne (bX5_stateOf_12 E Q) <|
  o_push (.int (-11)) <|
  o_ireturn .int Q
def wX5_stateOf (E : Nat → Value) : Wp := fun av h Q => match av with
  | [a0, a1, a2, a3] => bX5_stateOf_0 E Q [a0, a1, a2, a3] [] h
  | _ => False
set_option maxHeartbeats 4000000 in
theorem tX5_stateOf_118 {x : CX} {E : Nat → Value} {Q : Rs → HS → Prop} (EN : EX x E) (G : Gd x cX5_stateOf "ChantRulesModel" yX5_stateOf 4 (Option.some Jvm.ClassFile.FieldType.int) Q) (hF : x.1.2.2.2.frames = 5 ∧ x.1.2.2.2.locals = 128) (hC : x.2.2.2.2.2 = (fun _ => false)) (hxt : (∀ z ∈ x.2.2.1.2.1.exceptionTable.toList, False)) : Snd x 118 (bX5_stateOf_118 E Q) := by
  unfold bX5_stateOf_118
  refine s_bipush (by decide) G.b dX5_stateOf_118 ?_
  exact s_ireturn G dX5_stateOf_120
set_option maxHeartbeats 4000000 in
theorem tX5_stateOf_111 {x : CX} {E : Nat → Value} {Q : Rs → HS → Prop} (EN : EX x E) (G : Gd x cX5_stateOf "ChantRulesModel" yX5_stateOf 4 (Option.some Jvm.ClassFile.FieldType.int) Q) (hF : x.1.2.2.2.frames = 5 ∧ x.1.2.2.2.locals = 128) (hC : x.2.2.2.2.2 = (fun _ => false)) (hxt : (∀ z ∈ x.2.2.1.2.1.exceptionTable.toList, False)) : Snd x 111 (bX5_stateOf_111 E Q) := by
  unfold bX5_stateOf_111
  refine s_aload_n rfl G.b dX5_stateOf_111 ?_
  refine s_iload_n rfl G.b dX5_stateOf_112 ?_
  refine s_iconst (by decide) G.b dX5_stateOf_113 ?_
  refine s_callV G (mX5_byBreaths EN) q2134 q2136 (sel_cons (r := (RX5, TX5, 37)) (by decide) rfl qs50 (sel_nil)) q90 q2137 nmk_273 (rm_of hF (Nat.le_of_ble_eq_true rfl) (Nat.le_of_ble_eq_true rfl)) dX5_stateOf_114 ?_ (sx_out G (fun z hz => (hxt z hz).elim))
  exact s_ireturn G dX5_stateOf_117
set_option maxHeartbeats 4000000 in
theorem tX5_stateOf_104 {x : CX} {E : Nat → Value} {Q : Rs → HS → Prop} (EN : EX x E) (G : Gd x cX5_stateOf "ChantRulesModel" yX5_stateOf 4 (Option.some Jvm.ClassFile.FieldType.int) Q) (hF : x.1.2.2.2.frames = 5 ∧ x.1.2.2.2.locals = 128) (hC : x.2.2.2.2.2 = (fun _ => false)) (hxt : (∀ z ∈ x.2.2.1.2.1.exceptionTable.toList, False)) : Snd x 104 (bX5_stateOf_104 E Q) := by
  unfold bX5_stateOf_104
  refine s_aload_n rfl G.b dX5_stateOf_104 ?_
  refine s_getf G.b G.ow G.kn (G.hts _ q1923) (fun _ h => h) fa_75 dX5_stateOf_105 ?_
  refine s_iload_n rfl G.b dX5_stateOf_108 ?_
  refine s_iald G.b G.kn dX5_stateOf_109 ?_
  exact s_ireturn G dX5_stateOf_110
set_option maxHeartbeats 4000000 in
theorem tX5_stateOf_97 {x : CX} {E : Nat → Value} {Q : Rs → HS → Prop} (EN : EX x E) (G : Gd x cX5_stateOf "ChantRulesModel" yX5_stateOf 4 (Option.some Jvm.ClassFile.FieldType.int) Q) (hF : x.1.2.2.2.frames = 5 ∧ x.1.2.2.2.locals = 128) (hC : x.2.2.2.2.2 = (fun _ => false)) (hxt : (∀ z ∈ x.2.2.1.2.1.exceptionTable.toList, False)) : Snd x 97 (bX5_stateOf_97 E Q) := by
  unfold bX5_stateOf_97
  refine s_aload_n rfl G.b dX5_stateOf_97 ?_
  refine s_getf G.b G.ow G.kn (G.hts _ q1922) (fun _ h => h) fa_74 dX5_stateOf_98 ?_
  refine s_iload_n rfl G.b dX5_stateOf_101 ?_
  refine s_iald G.b G.kn dX5_stateOf_102 ?_
  exact s_ireturn G dX5_stateOf_103
set_option maxHeartbeats 4000000 in
theorem tX5_stateOf_93 {x : CX} {E : Nat → Value} {Q : Rs → HS → Prop} (EN : EX x E) (G : Gd x cX5_stateOf "ChantRulesModel" yX5_stateOf 4 (Option.some Jvm.ClassFile.FieldType.int) Q) (hF : x.1.2.2.2.frames = 5 ∧ x.1.2.2.2.locals = 128) (hC : x.2.2.2.2.2 = (fun _ => false)) (hxt : (∀ z ∈ x.2.2.1.2.1.exceptionTable.toList, False)) : Snd x 93 (bX5_stateOf_93 E Q) := by
  unfold bX5_stateOf_93
  refine s_callV G (mX5_leads EN) q2130 q2132 (sel_cons (r := (RX5, TX5, 37)) (by decide) rfl qs49 (sel_nil)) q90 q2133 nmk_296 (rm_of hF (Nat.le_of_ble_eq_true rfl) (Nat.le_of_ble_eq_true rfl)) dX5_stateOf_93 ?_ (sx_out G (fun z hz => (hxt z hz).elim))
  exact s_ireturn G dX5_stateOf_96
set_option maxHeartbeats 4000000 in
theorem tX5_stateOf_92 {x : CX} {E : Nat → Value} {Q : Rs → HS → Prop} (EN : EX x E) (G : Gd x cX5_stateOf "ChantRulesModel" yX5_stateOf 4 (Option.some Jvm.ClassFile.FieldType.int) Q) (hF : x.1.2.2.2.frames = 5 ∧ x.1.2.2.2.locals = 128) (hC : x.2.2.2.2.2 = (fun _ => false)) (hxt : (∀ z ∈ x.2.2.1.2.1.exceptionTable.toList, False)) : Snd x 92 (bX5_stateOf_92 E Q) := by
  unfold bX5_stateOf_92
  refine s_iconst (by decide) G.b dX5_stateOf_92 ?_
  exact (tX5_stateOf_93 EN G hF hC hxt)
set_option maxHeartbeats 4000000 in
theorem tX5_stateOf_81 {x : CX} {E : Nat → Value} {Q : Rs → HS → Prop} (EN : EX x E) (G : Gd x cX5_stateOf "ChantRulesModel" yX5_stateOf 4 (Option.some Jvm.ClassFile.FieldType.int) Q) (hF : x.1.2.2.2.frames = 5 ∧ x.1.2.2.2.locals = 128) (hC : x.2.2.2.2.2 = (fun _ => false)) (hxt : (∀ z ∈ x.2.2.1.2.1.exceptionTable.toList, False)) : Snd x 81 (bX5_stateOf_81 E Q) := by
  unfold bX5_stateOf_81
  refine s_aload_n rfl G.b dX5_stateOf_81 ?_
  refine s_iload_n rfl G.b dX5_stateOf_82 ?_
  refine s_iload_n rfl G.b dX5_stateOf_83 ?_
  refine s_iconst (by decide) G.b dX5_stateOf_84 ?_
  refine s_icmpne (tgt := 92) G.b dX5_stateOf_85 (by decide) (tX5_stateOf_92 EN G hF hC hxt) ?_
  refine s_iconst (by decide) G.b dX5_stateOf_88 ?_
  exact s_goto (tgt := 93) G.b dX5_stateOf_89 (by decide) (tX5_stateOf_93 EN G hF hC hxt)
set_option maxHeartbeats 4000000 in
theorem tX5_stateOf_80 {x : CX} {E : Nat → Value} {Q : Rs → HS → Prop} (EN : EX x E) (G : Gd x cX5_stateOf "ChantRulesModel" yX5_stateOf 4 (Option.some Jvm.ClassFile.FieldType.int) Q) (hF : x.1.2.2.2.frames = 5 ∧ x.1.2.2.2.locals = 128) (hC : x.2.2.2.2.2 = (fun _ => false)) (hxt : (∀ z ∈ x.2.2.1.2.1.exceptionTable.toList, False)) : Snd x 80 (bX5_stateOf_80 E Q) := by
  unfold bX5_stateOf_80
  exact s_ireturn G dX5_stateOf_80
set_option maxHeartbeats 4000000 in
theorem tX5_stateOf_74 {x : CX} {E : Nat → Value} {Q : Rs → HS → Prop} (EN : EX x E) (G : Gd x cX5_stateOf "ChantRulesModel" yX5_stateOf 4 (Option.some Jvm.ClassFile.FieldType.int) Q) (hF : x.1.2.2.2.frames = 5 ∧ x.1.2.2.2.locals = 128) (hC : x.2.2.2.2.2 = (fun _ => false)) (hxt : (∀ z ∈ x.2.2.1.2.1.exceptionTable.toList, False)) : Snd x 74 (bX5_stateOf_74 E Q) := by
  unfold bX5_stateOf_74
  refine s_aload_n rfl G.b dX5_stateOf_74 ?_
  refine s_getf G.b G.ow G.kn (G.hts _ q1919) (fun _ h => h) fa_92 dX5_stateOf_75 ?_
  refine s_iload_n rfl G.b dX5_stateOf_78 ?_
  refine s_iald G.b G.kn dX5_stateOf_79 ?_
  exact (tX5_stateOf_80 EN G hF hC hxt)
set_option maxHeartbeats 4000000 in
theorem tX5_stateOf_60 {x : CX} {E : Nat → Value} {Q : Rs → HS → Prop} (EN : EX x E) (G : Gd x cX5_stateOf "ChantRulesModel" yX5_stateOf 4 (Option.some Jvm.ClassFile.FieldType.int) Q) (hF : x.1.2.2.2.frames = 5 ∧ x.1.2.2.2.locals = 128) (hC : x.2.2.2.2.2 = (fun _ => false)) (hxt : (∀ z ∈ x.2.2.1.2.1.exceptionTable.toList, False)) : Snd x 60 (bX5_stateOf_60 E Q) := by
  unfold bX5_stateOf_60
  refine s_aload_n rfl G.b dX5_stateOf_60 ?_
  refine s_getf G.b G.ow G.kn (G.hts _ q1919) (fun _ h => h) fa_92 dX5_stateOf_61 ?_
  refine s_iload_n rfl G.b dX5_stateOf_64 ?_
  refine s_iald G.b G.kn dX5_stateOf_65 ?_
  refine s_ifge (tgt := 74) G.b dX5_stateOf_66 (by decide) (tX5_stateOf_74 EN G hF hC hxt) ?_
  refine s_bipush (by decide) G.b dX5_stateOf_69 ?_
  exact s_goto (tgt := 80) G.b dX5_stateOf_71 (by decide) (tX5_stateOf_80 EN G hF hC hxt)
set_option maxHeartbeats 4000000 in
theorem tX5_stateOf_12 {x : CX} {E : Nat → Value} {Q : Rs → HS → Prop} (EN : EX x E) (G : Gd x cX5_stateOf "ChantRulesModel" yX5_stateOf 4 (Option.some Jvm.ClassFile.FieldType.int) Q) (hF : x.1.2.2.2.frames = 5 ∧ x.1.2.2.2.locals = 128) (hC : x.2.2.2.2.2 = (fun _ => false)) (hxt : (∀ z ∈ x.2.2.1.2.1.exceptionTable.toList, False)) : Snd x 12 (bX5_stateOf_12 E Q) := by
  unfold bX5_stateOf_12
  refine s_aload_n rfl G.b dX5_stateOf_12 ?_
  refine s_iload_n rfl G.b dX5_stateOf_13 ?_
  refine s_callV G (mX5_laysRule EN) q2118 q2120 (sel_cons (r := (RX5, TX5, 37)) (by decide) rfl qs46 (sel_nil)) q90 q2121 nmk_274 (rm_of hF (Nat.le_of_ble_eq_true rfl) (Nat.le_of_ble_eq_true rfl)) dX5_stateOf_14 ?_ (sx_out G (fun z hz => (hxt z hz).elim))
  refine s_aload_n rfl G.b dX5_stateOf_17 ?_
  refine s_callV G (mX5_finds EN) q2126 q2128 (sel_cons (r := (RX5, TX5, 37)) (by decide) rfl qs48 (sel_nil)) q90 q2129 nmk_275 (rm_of hF (Nat.le_of_ble_eq_true rfl) (Nat.le_of_ble_eq_true rfl)) dX5_stateOf_18 ?_ (sx_out G (fun z hz => (hxt z hz).elim))
  refine s_iload_n rfl G.b dX5_stateOf_21 ?_
  exact s_tsw (tD := 118) G.b dX5_stateOf_22 (by decide) (tX5_stateOf_118 EN G hF hC hxt) rfl (tsw_0 (tsw_cons (38) 60 (by decide) rfl (by decide) (tX5_stateOf_60 EN G hF hC hxt) (tsw_cons (59) 81 (by decide) rfl (by decide) (tX5_stateOf_81 EN G hF hC hxt) (tsw_cons (59) 81 (by decide) rfl (by decide) (tX5_stateOf_81 EN G hF hC hxt) (tsw_cons (75) 97 (by decide) rfl (by decide) (tX5_stateOf_97 EN G hF hC hxt) (tsw_cons (82) 104 (by decide) rfl (by decide) (tX5_stateOf_104 EN G hF hC hxt) (tsw_cons (89) 111 (by decide) rfl (by decide) (tX5_stateOf_111 EN G hF hC hxt) (tsw_nil))))))))
set_option maxHeartbeats 4000000 in
theorem tX5_stateOf_0 {x : CX} {E : Nat → Value} {Q : Rs → HS → Prop} (EN : EX x E) (G : Gd x cX5_stateOf "ChantRulesModel" yX5_stateOf 4 (Option.some Jvm.ClassFile.FieldType.int) Q) (hF : x.1.2.2.2.frames = 5 ∧ x.1.2.2.2.locals = 128) (hC : x.2.2.2.2.2 = (fun _ => false)) (hxt : (∀ z ∈ x.2.2.1.2.1.exceptionTable.toList, False)) : Snd x 0 (bX5_stateOf_0 E Q) := by
  unfold bX5_stateOf_0
  refine s_aload_n rfl G.b dX5_stateOf_0 ?_
  refine s_iload_n rfl G.b dX5_stateOf_1 ?_
  refine s_iload_n rfl G.b dX5_stateOf_2 ?_
  refine s_callV G (mX5_isState EN) q2059 q2061 (sel_cons (r := (RX5, TX5, 37)) (by decide) rfl qs38 (sel_nil)) q90 q2062 nmk_257 (rm_of hF (Nat.le_of_ble_eq_true rfl) (Nat.le_of_ble_eq_true rfl)) dX5_stateOf_3 ?_ (sx_out G (fun z hz => (hxt z hz).elim))
  refine s_ifne (tgt := 12) G.b dX5_stateOf_6 (by decide) (tX5_stateOf_12 EN G hF hC hxt) ?_
  refine s_bipush (by decide) G.b dX5_stateOf_9 ?_
  exact s_ireturn G dX5_stateOf_11
set_option maxHeartbeats 4000000 in
theorem mX5_stateOf {l : Launch} {D : DE} {s0 : State} {E : Nat → Value} (EN : EV l D s0 E) : rMet l D s0 yX5_stateOf (ws_ yX5_stateOf cX5_stateOf 4 (Option.some Jvm.ClassFile.FieldType.int)) 5 128 (wX5_stateOf E) := by
  refine body_met (fun _ => false) EN.kn (fun w h => h) (by decide +kernel) rfl (fun av h Q hw => ?_) ?_
  · unfold wX5_stateOf at hw
    split at hw
    · exact Nat.le_of_ble_eq_true rfl
    · exact hw.elim
  · intro p e s m below meth c av h Q hxt G hw
    unfold wX5_stateOf at hw
    split at hw
    · exact tX5_stateOf_0 EN G ⟨rfl, rfl⟩ rfl hxt _ _ _ hw
    · exact hw.elim
/-! ChantRulesModel.letter(I)I (X5_letter) -/
def bX5_letter_14 (E : Nat → Value) (Q : Rs → HS → Prop) : Ct :=
  o_ireturn .int Q
def bX5_letter_10 (E : Nat → Value) (Q : Rs → HS → Prop) : Ct :=
  o_push (.int 97) <|
  o_iload 0 <|
  o_iadd <|
  (bX5_letter_14 E Q)
def bX5_letter_0 (E : Nat → Value) (Q : Rs → HS → Prop) : Ct :=
  o_iload 0 <|
  o_push (.int 4) <|
  o_icmpne (bX5_letter_10 E Q) <|
  o_push (.int 45) <|
  (bX5_letter_14 E Q)
def wX5_letter (E : Nat → Value) : Wp := fun av h Q => match av with
  | [a0] => bX5_letter_0 E Q [a0] [] h
  | _ => False
set_option maxHeartbeats 4000000 in
theorem tX5_letter_14 {x : CX} {E : Nat → Value} {Q : Rs → HS → Prop} (EN : EX x E) (G : Gd x cX5_letter "ChantRulesModel" yX5_letter 1 (Option.some Jvm.ClassFile.FieldType.int) Q) (hF : x.1.2.2.2.frames = 2 ∧ x.1.2.2.2.locals = 64) (hC : x.2.2.2.2.2 = (fun _ => false)) (hxt : (∀ z ∈ x.2.2.1.2.1.exceptionTable.toList, False)) : Snd x 14 (bX5_letter_14 E Q) := by
  unfold bX5_letter_14
  exact s_ireturn G dX5_letter_14
set_option maxHeartbeats 4000000 in
theorem tX5_letter_10 {x : CX} {E : Nat → Value} {Q : Rs → HS → Prop} (EN : EX x E) (G : Gd x cX5_letter "ChantRulesModel" yX5_letter 1 (Option.some Jvm.ClassFile.FieldType.int) Q) (hF : x.1.2.2.2.frames = 2 ∧ x.1.2.2.2.locals = 64) (hC : x.2.2.2.2.2 = (fun _ => false)) (hxt : (∀ z ∈ x.2.2.1.2.1.exceptionTable.toList, False)) : Snd x 10 (bX5_letter_10 E Q) := by
  unfold bX5_letter_10
  refine s_bipush (by decide) G.b dX5_letter_10 ?_
  refine s_iload_n rfl G.b dX5_letter_12 ?_
  refine s_iadd G.b dX5_letter_13 ?_
  exact (tX5_letter_14 EN G hF hC hxt)
set_option maxHeartbeats 4000000 in
theorem tX5_letter_0 {x : CX} {E : Nat → Value} {Q : Rs → HS → Prop} (EN : EX x E) (G : Gd x cX5_letter "ChantRulesModel" yX5_letter 1 (Option.some Jvm.ClassFile.FieldType.int) Q) (hF : x.1.2.2.2.frames = 2 ∧ x.1.2.2.2.locals = 64) (hC : x.2.2.2.2.2 = (fun _ => false)) (hxt : (∀ z ∈ x.2.2.1.2.1.exceptionTable.toList, False)) : Snd x 0 (bX5_letter_0 E Q) := by
  unfold bX5_letter_0
  refine s_iload_n rfl G.b dX5_letter_0 ?_
  refine s_iconst (by decide) G.b dX5_letter_1 ?_
  refine s_icmpne (tgt := 10) G.b dX5_letter_2 (by decide) (tX5_letter_10 EN G hF hC hxt) ?_
  refine s_bipush (by decide) G.b dX5_letter_5 ?_
  exact s_goto (tgt := 14) G.b dX5_letter_7 (by decide) (tX5_letter_14 EN G hF hC hxt)
set_option maxHeartbeats 4000000 in
theorem mX5_letter {l : Launch} {D : DE} {s0 : State} {E : Nat → Value} (EN : EV l D s0 E) : rMet l D s0 yX5_letter (ws_ yX5_letter cX5_letter 1 (Option.some Jvm.ClassFile.FieldType.int)) 2 64 (wX5_letter E) := by
  refine body_met (fun _ => false) EN.kn (fun w h => h) (by decide +kernel) rfl (fun av h Q hw => ?_) ?_
  · unfold wX5_letter at hw
    split at hw
    · exact Nat.le_of_ble_eq_true rfl
    · exact hw.elim
  · intro p e s m below meth c av h Q hxt G hw
    unfold wX5_letter at hw
    split at hw
    · exact tX5_letter_0 EN G ⟨rfl, rfl⟩ rfl hxt _ _ _ hw
    · exact hw.elim
/-! ChantRulesModel.tell(II)I (X5_tell) -/
theorem nmk_297 : nm_ok yX5_letter 1 := ⟨by decide +kernel, by decide +kernel, by decide +kernel⟩
def bX5_tell_90 (E : Nat → Value) (Q : Rs → HS → Prop) : Ct :=
  o_aload 0 <|
  o_getf [8] 7 <|
  o_iload 1 <|
  o_iload 2 <|
  o_push (.int 3) <|
  o_call 3 (wX5_of E) (x_out Q) <|
  o_ald [100] <|
  o_call 1 (wX5_letter E) (x_out Q) <|
  o_callV [8] 2 (wX5_writes E) (x_out Q) <|
  o_aload 0 <|
  o_push (.int 61) <|
  o_callV [8] 2 (wX5_writes E) (x_out Q) <|
  o_aload 0 <|
  o_push (.int 48) <|
  o_aload 0 <|
  o_getf [8] 7 <|
  o_iload 1 <|
  o_iload 2 <|
  o_push (.int 4) <|
  o_call 3 (wX5_of E) (x_out Q) <|
  o_ald [100] <|
  o_iadd <|
  o_callV [8] 2 (wX5_writes E) (x_out Q) <|
  o_aload 0 <|
  o_getf [8] 30 <|
  o_ireturn .int Q
def bX5_tell_12 (E : Nat → Value) (Q : Rs → HS → Prop) : Ct :=
  o_aload 0 <|
  o_push (.int 0) <|
  o_putf [8] 30 .int <|
  o_aload 0 <|
  o_push (.int 48) <|
  o_aload 0 <|
  o_getf [8] 7 <|
  o_iload 1 <|
  o_iload 2 <|
  o_push (.int 0) <|
  o_call 3 (wX5_of E) (x_out Q) <|
  o_ald [100] <|
  o_iadd <|
  o_callV [8] 2 (wX5_writes E) (x_out Q) <|
  o_aload 0 <|
  o_push (.int 62) <|
  o_callV [8] 2 (wX5_writes E) (x_out Q) <|
  o_aload 0 <|
  o_push (.int 48) <|
  o_aload 0 <|
  o_getf [8] 7 <|
  o_iload 1 <|
  o_iload 2 <|
  o_push (.int 1) <|
  o_call 3 (wX5_of E) (x_out Q) <|
  o_ald [100] <|
  o_iadd <|
  o_callV [8] 2 (wX5_writes E) (x_out Q) <|
  o_aload 0 <|
  o_push (.int 32) <|
  o_callV [8] 2 (wX5_writes E) (x_out Q) <|
  o_aload 0 <|
  o_aload 0 <|
  o_getf [8] 7 <|
  o_iload 1 <|
  o_iload 2 <|
  o_push (.int 2) <|
  o_call 3 (wX5_of E) (x_out Q) <|
  o_ald [100] <|
  o_call 1 (wX5_letter E) (x_out Q) <|
  o_callV [8] 2 (wX5_writes E) (x_out Q) <|
  o_aload 0 <|
  o_push (.int 47) <|
  o_callV [8] 2 (wX5_writes E) (x_out Q) <|
  o_aload 0 <|
  (bX5_tell_90 E Q)
def bX5_tell_0 (E : Nat → Value) (Q : Rs → HS → Prop) : Ct :=
  o_aload 0 <|
  o_iload 1 <|
  o_iload 2 <|
  o_callV [8] 3 (wX5_isArc E) (x_out Q) <|
  o_ifne (bX5_tell_12 E Q) <|
  o_push (.int (-11)) <|
  o_ireturn .int Q
def wX5_tell (E : Nat → Value) : Wp := fun av h Q => match av with
  | [a0, a1, a2] => bX5_tell_0 E Q [a0, a1, a2] [] h
  | _ => False
set_option maxHeartbeats 4000000 in
theorem tX5_tell_90 {x : CX} {E : Nat → Value} {Q : Rs → HS → Prop} (EN : EX x E) (G : Gd x cX5_tell "ChantRulesModel" yX5_tell 3 (Option.some Jvm.ClassFile.FieldType.int) Q) (hF : x.1.2.2.2.frames = 5 ∧ x.1.2.2.2.locals = 128) (hC : x.2.2.2.2.2 = (fun _ => false)) (hxt : (∀ z ∈ x.2.2.1.2.1.exceptionTable.toList, False)) : Snd x 90 (bX5_tell_90 E Q) := by
  unfold bX5_tell_90
  refine s_aload_n rfl G.b dX5_tell_90 ?_
  refine s_getf G.b G.ow G.kn (G.hts _ q1910) (fun _ h => h) fa_73 dX5_tell_91 ?_
  refine s_iload_n rfl G.b dX5_tell_94 ?_
  refine s_iload_n rfl G.b dX5_tell_95 ?_
  refine s_iconst (by decide) G.b dX5_tell_96 ?_
  refine s_callS G (mX5_of EN) q2079 q2080 q90 q2081 nmk_248 (rm_of hF (Nat.le_of_ble_eq_true rfl) (Nat.le_of_ble_eq_true rfl)) dX5_tell_97 ?_ (sx_out G (fun z hz => (hxt z hz).elim))
  refine s_iald G.b G.kn dX5_tell_100 ?_
  refine s_callS G (mX5_letter EN) q2291 q2292 q90 q2293 nmk_297 (rm_of hF (Nat.le_of_ble_eq_true rfl) (Nat.le_of_ble_eq_true rfl)) dX5_tell_101 ?_ (sx_out G (fun z hz => (hxt z hz).elim))
  refine s_callV G (mX5_writes EN) q2174 q2176 (sel_cons (r := (RX5, TX5, 37)) (by decide) rfl qs58 (sel_nil)) q90 q2177 nmk_294 (rm_of hF (Nat.le_of_ble_eq_true rfl) (Nat.le_of_ble_eq_true rfl)) dX5_tell_104 ?_ (sx_out G (fun z hz => (hxt z hz).elim))
  refine s_aload_n rfl G.b dX5_tell_107 ?_
  refine s_bipush (by decide) G.b dX5_tell_108 ?_
  refine s_callV G (mX5_writes EN) q2174 q2176 (sel_cons (r := (RX5, TX5, 37)) (by decide) rfl qs58 (sel_nil)) q90 q2177 nmk_294 (rm_of hF (Nat.le_of_ble_eq_true rfl) (Nat.le_of_ble_eq_true rfl)) dX5_tell_110 ?_ (sx_out G (fun z hz => (hxt z hz).elim))
  refine s_aload_n rfl G.b dX5_tell_113 ?_
  refine s_bipush (by decide) G.b dX5_tell_114 ?_
  refine s_aload_n rfl G.b dX5_tell_116 ?_
  refine s_getf G.b G.ow G.kn (G.hts _ q1910) (fun _ h => h) fa_73 dX5_tell_117 ?_
  refine s_iload_n rfl G.b dX5_tell_120 ?_
  refine s_iload_n rfl G.b dX5_tell_121 ?_
  refine s_iconst (by decide) G.b dX5_tell_122 ?_
  refine s_callS G (mX5_of EN) q2079 q2080 q90 q2081 nmk_248 (rm_of hF (Nat.le_of_ble_eq_true rfl) (Nat.le_of_ble_eq_true rfl)) dX5_tell_123 ?_ (sx_out G (fun z hz => (hxt z hz).elim))
  refine s_iald G.b G.kn dX5_tell_126 ?_
  refine s_iadd G.b dX5_tell_127 ?_
  refine s_callV G (mX5_writes EN) q2174 q2176 (sel_cons (r := (RX5, TX5, 37)) (by decide) rfl qs58 (sel_nil)) q90 q2177 nmk_294 (rm_of hF (Nat.le_of_ble_eq_true rfl) (Nat.le_of_ble_eq_true rfl)) dX5_tell_128 ?_ (sx_out G (fun z hz => (hxt z hz).elim))
  refine s_aload_n rfl G.b dX5_tell_131 ?_
  refine s_getf G.b G.ow G.kn (G.hts _ q1933) (fun _ h => h) fa_103 dX5_tell_132 ?_
  exact s_ireturn G dX5_tell_135
set_option maxHeartbeats 4000000 in
theorem tX5_tell_12 {x : CX} {E : Nat → Value} {Q : Rs → HS → Prop} (EN : EX x E) (G : Gd x cX5_tell "ChantRulesModel" yX5_tell 3 (Option.some Jvm.ClassFile.FieldType.int) Q) (hF : x.1.2.2.2.frames = 5 ∧ x.1.2.2.2.locals = 128) (hC : x.2.2.2.2.2 = (fun _ => false)) (hxt : (∀ z ∈ x.2.2.1.2.1.exceptionTable.toList, False)) : Snd x 12 (bX5_tell_12 E Q) := by
  unfold bX5_tell_12
  refine s_aload_n rfl G.b dX5_tell_12 ?_
  refine s_iconst (by decide) G.b dX5_tell_13 ?_
  refine s_putf G.b G.ow G.kn (G.hts _ q1933) (fun _ h => h) fa_103 (la_cons (r := (RX5, TX5, 37)) G.hts (by decide) rfl q2000 (la_nil)) (by decide +kernel) dX5_tell_14 ?_
  refine s_aload_n rfl G.b dX5_tell_17 ?_
  refine s_bipush (by decide) G.b dX5_tell_18 ?_
  refine s_aload_n rfl G.b dX5_tell_20 ?_
  refine s_getf G.b G.ow G.kn (G.hts _ q1910) (fun _ h => h) fa_73 dX5_tell_21 ?_
  refine s_iload_n rfl G.b dX5_tell_24 ?_
  refine s_iload_n rfl G.b dX5_tell_25 ?_
  refine s_iconst (by decide) G.b dX5_tell_26 ?_
  refine s_callS G (mX5_of EN) q2079 q2080 q90 q2081 nmk_248 (rm_of hF (Nat.le_of_ble_eq_true rfl) (Nat.le_of_ble_eq_true rfl)) dX5_tell_27 ?_ (sx_out G (fun z hz => (hxt z hz).elim))
  refine s_iald G.b G.kn dX5_tell_30 ?_
  refine s_iadd G.b dX5_tell_31 ?_
  refine s_callV G (mX5_writes EN) q2174 q2176 (sel_cons (r := (RX5, TX5, 37)) (by decide) rfl qs58 (sel_nil)) q90 q2177 nmk_294 (rm_of hF (Nat.le_of_ble_eq_true rfl) (Nat.le_of_ble_eq_true rfl)) dX5_tell_32 ?_ (sx_out G (fun z hz => (hxt z hz).elim))
  refine s_aload_n rfl G.b dX5_tell_35 ?_
  refine s_bipush (by decide) G.b dX5_tell_36 ?_
  refine s_callV G (mX5_writes EN) q2174 q2176 (sel_cons (r := (RX5, TX5, 37)) (by decide) rfl qs58 (sel_nil)) q90 q2177 nmk_294 (rm_of hF (Nat.le_of_ble_eq_true rfl) (Nat.le_of_ble_eq_true rfl)) dX5_tell_38 ?_ (sx_out G (fun z hz => (hxt z hz).elim))
  refine s_aload_n rfl G.b dX5_tell_41 ?_
  refine s_bipush (by decide) G.b dX5_tell_42 ?_
  refine s_aload_n rfl G.b dX5_tell_44 ?_
  refine s_getf G.b G.ow G.kn (G.hts _ q1910) (fun _ h => h) fa_73 dX5_tell_45 ?_
  refine s_iload_n rfl G.b dX5_tell_48 ?_
  refine s_iload_n rfl G.b dX5_tell_49 ?_
  refine s_iconst (by decide) G.b dX5_tell_50 ?_
  refine s_callS G (mX5_of EN) q2079 q2080 q90 q2081 nmk_248 (rm_of hF (Nat.le_of_ble_eq_true rfl) (Nat.le_of_ble_eq_true rfl)) dX5_tell_51 ?_ (sx_out G (fun z hz => (hxt z hz).elim))
  refine s_iald G.b G.kn dX5_tell_54 ?_
  refine s_iadd G.b dX5_tell_55 ?_
  refine s_callV G (mX5_writes EN) q2174 q2176 (sel_cons (r := (RX5, TX5, 37)) (by decide) rfl qs58 (sel_nil)) q90 q2177 nmk_294 (rm_of hF (Nat.le_of_ble_eq_true rfl) (Nat.le_of_ble_eq_true rfl)) dX5_tell_56 ?_ (sx_out G (fun z hz => (hxt z hz).elim))
  refine s_aload_n rfl G.b dX5_tell_59 ?_
  refine s_bipush (by decide) G.b dX5_tell_60 ?_
  refine s_callV G (mX5_writes EN) q2174 q2176 (sel_cons (r := (RX5, TX5, 37)) (by decide) rfl qs58 (sel_nil)) q90 q2177 nmk_294 (rm_of hF (Nat.le_of_ble_eq_true rfl) (Nat.le_of_ble_eq_true rfl)) dX5_tell_62 ?_ (sx_out G (fun z hz => (hxt z hz).elim))
  refine s_aload_n rfl G.b dX5_tell_65 ?_
  refine s_aload_n rfl G.b dX5_tell_66 ?_
  refine s_getf G.b G.ow G.kn (G.hts _ q1910) (fun _ h => h) fa_73 dX5_tell_67 ?_
  refine s_iload_n rfl G.b dX5_tell_70 ?_
  refine s_iload_n rfl G.b dX5_tell_71 ?_
  refine s_iconst (by decide) G.b dX5_tell_72 ?_
  refine s_callS G (mX5_of EN) q2079 q2080 q90 q2081 nmk_248 (rm_of hF (Nat.le_of_ble_eq_true rfl) (Nat.le_of_ble_eq_true rfl)) dX5_tell_73 ?_ (sx_out G (fun z hz => (hxt z hz).elim))
  refine s_iald G.b G.kn dX5_tell_76 ?_
  refine s_callS G (mX5_letter EN) q2291 q2292 q90 q2293 nmk_297 (rm_of hF (Nat.le_of_ble_eq_true rfl) (Nat.le_of_ble_eq_true rfl)) dX5_tell_77 ?_ (sx_out G (fun z hz => (hxt z hz).elim))
  refine s_callV G (mX5_writes EN) q2174 q2176 (sel_cons (r := (RX5, TX5, 37)) (by decide) rfl qs58 (sel_nil)) q90 q2177 nmk_294 (rm_of hF (Nat.le_of_ble_eq_true rfl) (Nat.le_of_ble_eq_true rfl)) dX5_tell_80 ?_ (sx_out G (fun z hz => (hxt z hz).elim))
  refine s_aload_n rfl G.b dX5_tell_83 ?_
  refine s_bipush (by decide) G.b dX5_tell_84 ?_
  refine s_callV G (mX5_writes EN) q2174 q2176 (sel_cons (r := (RX5, TX5, 37)) (by decide) rfl qs58 (sel_nil)) q90 q2177 nmk_294 (rm_of hF (Nat.le_of_ble_eq_true rfl) (Nat.le_of_ble_eq_true rfl)) dX5_tell_86 ?_ (sx_out G (fun z hz => (hxt z hz).elim))
  refine s_aload_n rfl G.b dX5_tell_89 ?_
  exact (tX5_tell_90 EN G hF hC hxt)
set_option maxHeartbeats 4000000 in
theorem tX5_tell_0 {x : CX} {E : Nat → Value} {Q : Rs → HS → Prop} (EN : EX x E) (G : Gd x cX5_tell "ChantRulesModel" yX5_tell 3 (Option.some Jvm.ClassFile.FieldType.int) Q) (hF : x.1.2.2.2.frames = 5 ∧ x.1.2.2.2.locals = 128) (hC : x.2.2.2.2.2 = (fun _ => false)) (hxt : (∀ z ∈ x.2.2.1.2.1.exceptionTable.toList, False)) : Snd x 0 (bX5_tell_0 E Q) := by
  unfold bX5_tell_0
  refine s_aload_n rfl G.b dX5_tell_0 ?_
  refine s_iload_n rfl G.b dX5_tell_1 ?_
  refine s_iload_n rfl G.b dX5_tell_2 ?_
  refine s_callV G (mX5_isArc EN) q2090 q2092 (sel_cons (r := (RX5, TX5, 37)) (by decide) rfl qs43 (sel_nil)) q90 q2093 nmk_261 (rm_of hF (Nat.le_of_ble_eq_true rfl) (Nat.le_of_ble_eq_true rfl)) dX5_tell_3 ?_ (sx_out G (fun z hz => (hxt z hz).elim))
  refine s_ifne (tgt := 12) G.b dX5_tell_6 (by decide) (tX5_tell_12 EN G hF hC hxt) ?_
  refine s_bipush (by decide) G.b dX5_tell_9 ?_
  exact s_ireturn G dX5_tell_11
set_option maxHeartbeats 4000000 in
theorem mX5_tell {l : Launch} {D : DE} {s0 : State} {E : Nat → Value} (EN : EV l D s0 E) : rMet l D s0 yX5_tell (ws_ yX5_tell cX5_tell 3 (Option.some Jvm.ClassFile.FieldType.int)) 5 128 (wX5_tell E) := by
  refine body_met (fun _ => false) EN.kn (fun w h => h) (by decide +kernel) rfl (fun av h Q hw => ?_) ?_
  · unfold wX5_tell at hw
    split at hw
    · exact Nat.le_of_ble_eq_true rfl
    · exact hw.elim
  · intro p e s m below meth c av h Q hxt G hw
    unfold wX5_tell at hw
    split at hw
    · exact tX5_tell_0 EN G ⟨rfl, rfl⟩ rfl hxt _ _ _ hw
    · exact hw.elim
/-! ChantRulesModel.tellStates(I)I (X5_tellStates) -/
def bX5_tellStates_105 (E : Nat → Value) (Q : Rs → HS → Prop) (X26 : Ct) : Ct :=
  o_aload 0 <|
  o_getf [8] 30 <|
  o_ireturn .int Q
def bX5_tellStates_99 (E : Nat → Value) (Q : Rs → HS → Prop) (X26 : Ct) : Ct :=
  o_iinc 2 1 <|
  X26
def bX5_tellStates_80 (E : Nat → Value) (Q : Rs → HS → Prop) (X26 : Ct) : Ct :=
  o_aload 0 <|
  o_push (.int 61) <|
  o_callV [8] 2 (wX5_writes E) (x_out Q) <|
  o_aload 0 <|
  o_push (.int 48) <|
  o_aload 0 <|
  o_getf [8] 16 <|
  o_iload 2 <|
  o_ald [100] <|
  o_iadd <|
  o_callV [8] 2 (wX5_writes E) (x_out Q) <|
  (bX5_tellStates_99 E Q X26)
def bX5_tellStates_68 (E : Nat → Value) (Q : Rs → HS → Prop) (X26 : Ct) : Ct :=
  o_aload 0 <|
  o_getf [8] 16 <|
  o_iload 2 <|
  o_ald [100] <|
  o_ifge (bX5_tellStates_80 E Q X26) <|
  (bX5_tellStates_99 E Q X26)
def bX5_tellStates_44 (E : Nat → Value) (Q : Rs → HS → Prop) (X26 : Ct) : Ct :=
  o_aload 0 <|
  o_push (.int 48) <|
  o_iload 2 <|
  o_iadd <|
  o_callV [8] 2 (wX5_writes E) (x_out Q) <|
  o_aload 0 <|
  o_getf [8] 20 <|
  o_iload 2 <|
  o_ald [100] <|
  o_push (.int 1) <|
  o_icmpne (bX5_tellStates_68 E Q X26) <|
  o_aload 0 <|
  o_push (.int 33) <|
  o_callV [8] 2 (wX5_writes E) (x_out Q) <|
  (bX5_tellStates_68 E Q X26)
def bX5_tellStates_26 (E : Nat → Value) (Q : Rs → HS → Prop) (X26 : Ct) : Ct :=
  o_iload 2 <|
  o_aload 0 <|
  o_getf [8] 18 <|
  o_icmpge (bX5_tellStates_105 E Q X26) <|
  o_iload 2 <|
  o_ifle (bX5_tellStates_44 E Q X26) <|
  o_aload 0 <|
  o_push (.int 44) <|
  o_callV [8] 2 (wX5_writes E) (x_out Q) <|
  (bX5_tellStates_44 E Q X26)
def bX5_tellStates_10 (E : Nat → Value) (Q : Rs → HS → Prop) (X26 : Ct) : Ct :=
  o_aload 0 <|
  o_iload 1 <|
  o_callV [8] 2 (wX5_laysRule E) (x_out Q) <|
  o_aload 0 <|
  o_callV [8] 1 (wX5_finds E) (x_out Q) <|
  o_aload 0 <|
  o_push (.int 0) <|
  o_putf [8] 30 .int <|
  o_push (.int 0) <|
  o_istore 2 <|
  X26
def bX5_tellStates_0 (E : Nat → Value) (Q : Rs → HS → Prop) (X26 : Ct) : Ct :=
  o_iload 1 <|
  o_call 1 (wX5_isRule E) (x_out Q) <|
  o_ifne (bX5_tellStates_10 E Q X26) <|
  o_push (.int (-11)) <|
  o_ireturn .int Q
def wX5_tellStates (E : Nat → Value) : Wp := fun av h Q => match av with
  | [a0, a1] => ∀ X26 : Ct, (∀ ls st h, bX5_tellStates_26 E Q X26 ls st h → X26 ls st h) → bX5_tellStates_0 E Q X26 [a0, a1, jk] [] h
  | _ => False
set_option maxHeartbeats 4000000 in
theorem tX5_tellStates_105 {x : CX} {E : Nat → Value} {Q : Rs → HS → Prop} {X26 : Ct} (EN : EX x E) (G : Gd x cX5_tellStates "ChantRulesModel" yX5_tellStates 3 (Option.some Jvm.ClassFile.FieldType.int) Q) (hF : x.1.2.2.2.frames = 4 ∧ x.1.2.2.2.locals = 111) (hC : x.2.2.2.2.2 = (fun _ => false)) (hxt : (∀ z ∈ x.2.2.1.2.1.exceptionTable.toList, False)) (h26 : Snd x 26 X26) : Snd x 105 (bX5_tellStates_105 E Q X26) := by
  unfold bX5_tellStates_105
  refine s_aload_n rfl G.b dX5_tellStates_105 ?_
  refine s_getf G.b G.ow G.kn (G.hts _ q1933) (fun _ h => h) fa_103 dX5_tellStates_106 ?_
  exact s_ireturn G dX5_tellStates_109
set_option maxHeartbeats 4000000 in
theorem tX5_tellStates_99 {x : CX} {E : Nat → Value} {Q : Rs → HS → Prop} {X26 : Ct} (EN : EX x E) (G : Gd x cX5_tellStates "ChantRulesModel" yX5_tellStates 3 (Option.some Jvm.ClassFile.FieldType.int) Q) (hF : x.1.2.2.2.frames = 4 ∧ x.1.2.2.2.locals = 111) (hC : x.2.2.2.2.2 = (fun _ => false)) (hxt : (∀ z ∈ x.2.2.1.2.1.exceptionTable.toList, False)) (h26 : Snd x 26 X26) : Snd x 99 (bX5_tellStates_99 E Q X26) := by
  unfold bX5_tellStates_99
  refine s_iinc (by decide) G.b (by rw [G.nl]; decide) (fun _ _ => by rw [hC]) dX5_tellStates_99 ?_
  exact s_goto (tgt := 26) G.b dX5_tellStates_102 (by decide) h26
set_option maxHeartbeats 4000000 in
theorem tX5_tellStates_80 {x : CX} {E : Nat → Value} {Q : Rs → HS → Prop} {X26 : Ct} (EN : EX x E) (G : Gd x cX5_tellStates "ChantRulesModel" yX5_tellStates 3 (Option.some Jvm.ClassFile.FieldType.int) Q) (hF : x.1.2.2.2.frames = 4 ∧ x.1.2.2.2.locals = 111) (hC : x.2.2.2.2.2 = (fun _ => false)) (hxt : (∀ z ∈ x.2.2.1.2.1.exceptionTable.toList, False)) (h26 : Snd x 26 X26) : Snd x 80 (bX5_tellStates_80 E Q X26) := by
  unfold bX5_tellStates_80
  refine s_aload_n rfl G.b dX5_tellStates_80 ?_
  refine s_bipush (by decide) G.b dX5_tellStates_81 ?_
  refine s_callV G (mX5_writes EN) q2174 q2176 (sel_cons (r := (RX5, TX5, 37)) (by decide) rfl qs58 (sel_nil)) q90 q2177 nmk_294 (rm_of hF (Nat.le_of_ble_eq_true rfl) (Nat.le_of_ble_eq_true rfl)) dX5_tellStates_83 ?_ (sx_out G (fun z hz => (hxt z hz).elim))
  refine s_aload_n rfl G.b dX5_tellStates_86 ?_
  refine s_bipush (by decide) G.b dX5_tellStates_87 ?_
  refine s_aload_n rfl G.b dX5_tellStates_89 ?_
  refine s_getf G.b G.ow G.kn (G.hts _ q1919) (fun _ h => h) fa_92 dX5_tellStates_90 ?_
  refine s_iload_n rfl G.b dX5_tellStates_93 ?_
  refine s_iald G.b G.kn dX5_tellStates_94 ?_
  refine s_iadd G.b dX5_tellStates_95 ?_
  refine s_callV G (mX5_writes EN) q2174 q2176 (sel_cons (r := (RX5, TX5, 37)) (by decide) rfl qs58 (sel_nil)) q90 q2177 nmk_294 (rm_of hF (Nat.le_of_ble_eq_true rfl) (Nat.le_of_ble_eq_true rfl)) dX5_tellStates_96 ?_ (sx_out G (fun z hz => (hxt z hz).elim))
  exact (tX5_tellStates_99 EN G hF hC hxt h26)
set_option maxHeartbeats 4000000 in
theorem tX5_tellStates_68 {x : CX} {E : Nat → Value} {Q : Rs → HS → Prop} {X26 : Ct} (EN : EX x E) (G : Gd x cX5_tellStates "ChantRulesModel" yX5_tellStates 3 (Option.some Jvm.ClassFile.FieldType.int) Q) (hF : x.1.2.2.2.frames = 4 ∧ x.1.2.2.2.locals = 111) (hC : x.2.2.2.2.2 = (fun _ => false)) (hxt : (∀ z ∈ x.2.2.1.2.1.exceptionTable.toList, False)) (h26 : Snd x 26 X26) : Snd x 68 (bX5_tellStates_68 E Q X26) := by
  unfold bX5_tellStates_68
  refine s_aload_n rfl G.b dX5_tellStates_68 ?_
  refine s_getf G.b G.ow G.kn (G.hts _ q1919) (fun _ h => h) fa_92 dX5_tellStates_69 ?_
  refine s_iload_n rfl G.b dX5_tellStates_72 ?_
  refine s_iald G.b G.kn dX5_tellStates_73 ?_
  refine s_ifge (tgt := 80) G.b dX5_tellStates_74 (by decide) (tX5_tellStates_80 EN G hF hC hxt h26) ?_
  exact s_goto (tgt := 99) G.b dX5_tellStates_77 (by decide) (tX5_tellStates_99 EN G hF hC hxt h26)
set_option maxHeartbeats 4000000 in
theorem tX5_tellStates_44 {x : CX} {E : Nat → Value} {Q : Rs → HS → Prop} {X26 : Ct} (EN : EX x E) (G : Gd x cX5_tellStates "ChantRulesModel" yX5_tellStates 3 (Option.some Jvm.ClassFile.FieldType.int) Q) (hF : x.1.2.2.2.frames = 4 ∧ x.1.2.2.2.locals = 111) (hC : x.2.2.2.2.2 = (fun _ => false)) (hxt : (∀ z ∈ x.2.2.1.2.1.exceptionTable.toList, False)) (h26 : Snd x 26 X26) : Snd x 44 (bX5_tellStates_44 E Q X26) := by
  unfold bX5_tellStates_44
  refine s_aload_n rfl G.b dX5_tellStates_44 ?_
  refine s_bipush (by decide) G.b dX5_tellStates_45 ?_
  refine s_iload_n rfl G.b dX5_tellStates_47 ?_
  refine s_iadd G.b dX5_tellStates_48 ?_
  refine s_callV G (mX5_writes EN) q2174 q2176 (sel_cons (r := (RX5, TX5, 37)) (by decide) rfl qs58 (sel_nil)) q90 q2177 nmk_294 (rm_of hF (Nat.le_of_ble_eq_true rfl) (Nat.le_of_ble_eq_true rfl)) dX5_tellStates_49 ?_ (sx_out G (fun z hz => (hxt z hz).elim))
  refine s_aload_n rfl G.b dX5_tellStates_52 ?_
  refine s_getf G.b G.ow G.kn (G.hts _ q1923) (fun _ h => h) fa_75 dX5_tellStates_53 ?_
  refine s_iload_n rfl G.b dX5_tellStates_56 ?_
  refine s_iald G.b G.kn dX5_tellStates_57 ?_
  refine s_iconst (by decide) G.b dX5_tellStates_58 ?_
  refine s_icmpne (tgt := 68) G.b dX5_tellStates_59 (by decide) (tX5_tellStates_68 EN G hF hC hxt h26) ?_
  refine s_aload_n rfl G.b dX5_tellStates_62 ?_
  refine s_bipush (by decide) G.b dX5_tellStates_63 ?_
  refine s_callV G (mX5_writes EN) q2174 q2176 (sel_cons (r := (RX5, TX5, 37)) (by decide) rfl qs58 (sel_nil)) q90 q2177 nmk_294 (rm_of hF (Nat.le_of_ble_eq_true rfl) (Nat.le_of_ble_eq_true rfl)) dX5_tellStates_65 ?_ (sx_out G (fun z hz => (hxt z hz).elim))
  exact (tX5_tellStates_68 EN G hF hC hxt h26)
set_option maxHeartbeats 4000000 in
theorem tX5_tellStates_26 {x : CX} {E : Nat → Value} {Q : Rs → HS → Prop} {X26 : Ct} (EN : EX x E) (G : Gd x cX5_tellStates "ChantRulesModel" yX5_tellStates 3 (Option.some Jvm.ClassFile.FieldType.int) Q) (hF : x.1.2.2.2.frames = 4 ∧ x.1.2.2.2.locals = 111) (hC : x.2.2.2.2.2 = (fun _ => false)) (hxt : (∀ z ∈ x.2.2.1.2.1.exceptionTable.toList, False)) (h26 : Snd x 26 X26) : Snd x 26 (bX5_tellStates_26 E Q X26) := by
  unfold bX5_tellStates_26
  refine s_iload_n rfl G.b dX5_tellStates_26 ?_
  refine s_aload_n rfl G.b dX5_tellStates_27 ?_
  refine s_getf G.b G.ow G.kn (G.hts _ q1921) (fun _ h => h) fa_100 dX5_tellStates_28 ?_
  refine s_icmpge (tgt := 105) G.b dX5_tellStates_31 (by decide) (tX5_tellStates_105 EN G hF hC hxt h26) ?_
  refine s_iload_n rfl G.b dX5_tellStates_34 ?_
  refine s_ifle (tgt := 44) G.b dX5_tellStates_35 (by decide) (tX5_tellStates_44 EN G hF hC hxt h26) ?_
  refine s_aload_n rfl G.b dX5_tellStates_38 ?_
  refine s_bipush (by decide) G.b dX5_tellStates_39 ?_
  refine s_callV G (mX5_writes EN) q2174 q2176 (sel_cons (r := (RX5, TX5, 37)) (by decide) rfl qs58 (sel_nil)) q90 q2177 nmk_294 (rm_of hF (Nat.le_of_ble_eq_true rfl) (Nat.le_of_ble_eq_true rfl)) dX5_tellStates_41 ?_ (sx_out G (fun z hz => (hxt z hz).elim))
  exact (tX5_tellStates_44 EN G hF hC hxt h26)
set_option maxHeartbeats 4000000 in
theorem tX5_tellStates_10 {x : CX} {E : Nat → Value} {Q : Rs → HS → Prop} {X26 : Ct} (EN : EX x E) (G : Gd x cX5_tellStates "ChantRulesModel" yX5_tellStates 3 (Option.some Jvm.ClassFile.FieldType.int) Q) (hF : x.1.2.2.2.frames = 4 ∧ x.1.2.2.2.locals = 111) (hC : x.2.2.2.2.2 = (fun _ => false)) (hxt : (∀ z ∈ x.2.2.1.2.1.exceptionTable.toList, False)) (h26 : Snd x 26 X26) : Snd x 10 (bX5_tellStates_10 E Q X26) := by
  unfold bX5_tellStates_10
  refine s_aload_n rfl G.b dX5_tellStates_10 ?_
  refine s_iload_n rfl G.b dX5_tellStates_11 ?_
  refine s_callV G (mX5_laysRule EN) q2118 q2120 (sel_cons (r := (RX5, TX5, 37)) (by decide) rfl qs46 (sel_nil)) q90 q2121 nmk_274 (rm_of hF (Nat.le_of_ble_eq_true rfl) (Nat.le_of_ble_eq_true rfl)) dX5_tellStates_12 ?_ (sx_out G (fun z hz => (hxt z hz).elim))
  refine s_aload_n rfl G.b dX5_tellStates_15 ?_
  refine s_callV G (mX5_finds EN) q2126 q2128 (sel_cons (r := (RX5, TX5, 37)) (by decide) rfl qs48 (sel_nil)) q90 q2129 nmk_275 (rm_of hF (Nat.le_of_ble_eq_true rfl) (Nat.le_of_ble_eq_true rfl)) dX5_tellStates_16 ?_ (sx_out G (fun z hz => (hxt z hz).elim))
  refine s_aload_n rfl G.b dX5_tellStates_19 ?_
  refine s_iconst (by decide) G.b dX5_tellStates_20 ?_
  refine s_putf G.b G.ow G.kn (G.hts _ q1933) (fun _ h => h) fa_103 (la_cons (r := (RX5, TX5, 37)) G.hts (by decide) rfl q2000 (la_nil)) (by decide +kernel) dX5_tellStates_21 ?_
  refine s_iconst (by decide) G.b dX5_tellStates_24 ?_
  refine s_istore_n rfl G.b (by rw [G.nl]; decide) (fun _ _ => by rw [hC]) dX5_tellStates_25 ?_
  exact h26
set_option maxHeartbeats 4000000 in
theorem tX5_tellStates_0 {x : CX} {E : Nat → Value} {Q : Rs → HS → Prop} {X26 : Ct} (EN : EX x E) (G : Gd x cX5_tellStates "ChantRulesModel" yX5_tellStates 3 (Option.some Jvm.ClassFile.FieldType.int) Q) (hF : x.1.2.2.2.frames = 4 ∧ x.1.2.2.2.locals = 111) (hC : x.2.2.2.2.2 = (fun _ => false)) (hxt : (∀ z ∈ x.2.2.1.2.1.exceptionTable.toList, False)) (h26 : Snd x 26 X26) : Snd x 0 (bX5_tellStates_0 E Q X26) := by
  unfold bX5_tellStates_0
  refine s_iload_n rfl G.b dX5_tellStates_0 ?_
  refine s_callS G (mX5_isRule EN) q2030 q2031 q90 q2032 nmk_253 (rm_of hF (Nat.le_of_ble_eq_true rfl) (Nat.le_of_ble_eq_true rfl)) dX5_tellStates_1 ?_ (sx_out G (fun z hz => (hxt z hz).elim))
  refine s_ifne (tgt := 10) G.b dX5_tellStates_4 (by decide) (tX5_tellStates_10 EN G hF hC hxt h26) ?_
  refine s_bipush (by decide) G.b dX5_tellStates_7 ?_
  exact s_ireturn G dX5_tellStates_9
set_option maxHeartbeats 4000000 in
theorem mX5_tellStates {l : Launch} {D : DE} {s0 : State} {E : Nat → Value} (EN : EV l D s0 E) : rMet l D s0 yX5_tellStates (ws_ yX5_tellStates cX5_tellStates 3 (Option.some Jvm.ClassFile.FieldType.int)) 4 111 (wX5_tellStates E) := by
  refine body_met (fun _ => false) EN.kn (fun w h => h) (by decide +kernel) rfl (fun av h Q hw => ?_) ?_
  · unfold wX5_tellStates at hw
    split at hw
    · exact Nat.le_of_ble_eq_true rfl
    · exact hw.elim
  · intro p e s m below meth c av h Q hxt G hw
    unfold wX5_tellStates at hw
    split at hw
    · exact tX5_tellStates_0 EN G ⟨rfl, rfl⟩ rfl hxt (fun _ _ _ h => h) _ _ _ (hw (AW _ 26) (tX5_tellStates_26 EN G ⟨rfl, rfl⟩ rfl hxt (fun _ _ _ h => h)))
    · exact hw.elim
/-! ChantRulesModel.turn(I)I (X5_turn) -/
def bX5_turn_0 (E : Nat → Value) (Q : Rs → HS → Prop) : Ct :=
  o_aload 0 <|
  o_callV [8] 1 (wX5_begins E) (x_out Q) <|
  o_aload 0 <|
  o_aload 0 <|
  o_iload 1 <|
  o_callV [8] 2 (wX5_turns E) (x_out Q) <|
  o_callV [8] 2 (wX5_ends E) (x_out Q) <|
  o_ireturn .int Q
def wX5_turn (E : Nat → Value) : Wp := fun av h Q => match av with
  | [a0, a1] => bX5_turn_0 E Q [a0, a1] [] h
  | _ => False
set_option maxHeartbeats 4000000 in
theorem tX5_turn_0 {x : CX} {E : Nat → Value} {Q : Rs → HS → Prop} (EN : EX x E) (G : Gd x cX5_turn "ChantRulesModel" yX5_turn 2 (Option.some Jvm.ClassFile.FieldType.int) Q) (hF : x.1.2.2.2.frames = 5 ∧ x.1.2.2.2.locals = 131) (hC : x.2.2.2.2.2 = (fun _ => false)) (hxt : (∀ z ∈ x.2.2.1.2.1.exceptionTable.toList, False)) : Snd x 0 (bX5_turn_0 E Q) := by
  unfold bX5_turn_0
  refine s_aload_n rfl G.b dX5_turn_0 ?_
  refine s_callV G (mX5_begins EN) q2019 q2021 (sel_cons (r := (RX5, TX5, 37)) (by decide) rfl qs32 (sel_nil)) q90 q2022 nmk_258 (rm_of hF (Nat.le_of_ble_eq_true rfl) (Nat.le_of_ble_eq_true rfl)) dX5_turn_1 ?_ (sx_out G (fun z hz => (hxt z hz).elim))
  refine s_aload_n rfl G.b dX5_turn_4 ?_
  refine s_aload_n rfl G.b dX5_turn_5 ?_
  refine s_iload_n rfl G.b dX5_turn_6 ?_
  refine s_callV G (mX5_turns EN) q2106 q2108 (sel_cons (r := (RX5, TX5, 37)) (by decide) rfl qs45 (sel_nil)) q90 q2109 nmk_286 (rm_of hF (Nat.le_of_ble_eq_true rfl) (Nat.le_of_ble_eq_true rfl)) dX5_turn_7 ?_ (sx_out G (fun z hz => (hxt z hz).elim))
  refine s_callV G (mX5_ends EN) q2047 q2049 (sel_cons (r := (RX5, TX5, 37)) (by decide) rfl qs36 (sel_nil)) q90 q2050 nmk_260 (rm_of hF (Nat.le_of_ble_eq_true rfl) (Nat.le_of_ble_eq_true rfl)) dX5_turn_10 ?_ (sx_out G (fun z hz => (hxt z hz).elim))
  exact s_ireturn G dX5_turn_13
set_option maxHeartbeats 4000000 in
theorem mX5_turn {l : Launch} {D : DE} {s0 : State} {E : Nat → Value} (EN : EV l D s0 E) : rMet l D s0 yX5_turn (ws_ yX5_turn cX5_turn 2 (Option.some Jvm.ClassFile.FieldType.int)) 5 131 (wX5_turn E) := by
  refine body_met (fun _ => false) EN.kn (fun w h => h) (by decide +kernel) rfl (fun av h Q hw => ?_) ?_
  · unfold wX5_turn at hw
    split at hw
    · exact Nat.le_of_ble_eq_true rfl
    · exact hw.elim
  · intro p e s m below meth c av h Q hxt G hw
    unfold wX5_turn at hw
    split at hw
    · exact tX5_turn_0 EN G ⟨rfl, rfl⟩ rfl hxt _ _ _ hw
    · exact hw.elim
/-! ChantRulesModel.undo()I (X5_undo) -/
def bX5_undo_56 (E : Nat → Value) (Q : Rs → HS → Prop) (X22 : Ct) : Ct :=
  o_aload 0 <|
  o_getf [8] 1 <|
  o_ireturn .int Q
def bX5_undo_22 (E : Nat → Value) (Q : Rs → HS → Prop) (X22 : Ct) : Ct :=
  o_iload 1 <|
  o_push (.int 137) <|
  o_icmpge (bX5_undo_56 E Q X22) <|
  o_aload 0 <|
  o_getf [8] 7 <|
  o_iload 1 <|
  o_aload 0 <|
  o_getf [8] 10 <|
  o_aload 0 <|
  o_getf [8] 1 <|
  o_push (.int 137) <|
  o_imul <|
  o_iload 1 <|
  o_iadd <|
  o_ald [100] <|
  o_ast [(100, .int)] <|
  o_iinc 1 1 <|
  X22
def bX5_undo_10 (E : Nat → Value) (Q : Rs → HS → Prop) (X22 : Ct) : Ct :=
  o_aload 0 <|
  o_dup <|
  o_getf [8] 1 <|
  o_push (.int 1) <|
  o_isub <|
  o_putf [8] 1 .int <|
  o_push (.int 0) <|
  o_istore 1 <|
  X22
def bX5_undo_0 (E : Nat → Value) (Q : Rs → HS → Prop) (X22 : Ct) : Ct :=
  o_aload 0 <|
  o_getf [8] 1 <|
  o_ifne (bX5_undo_10 E Q X22) <|
  o_push (.int (-15)) <|
  o_ireturn .int Q
def wX5_undo (E : Nat → Value) : Wp := fun av h Q => match av with
  | [a0] => ∀ X22 : Ct, (∀ ls st h, bX5_undo_22 E Q X22 ls st h → X22 ls st h) → bX5_undo_0 E Q X22 [a0, jk] [] h
  | _ => False
set_option maxHeartbeats 4000000 in
theorem tX5_undo_56 {x : CX} {E : Nat → Value} {Q : Rs → HS → Prop} {X22 : Ct} (EN : EX x E) (G : Gd x cX5_undo "ChantRulesModel" yX5_undo 2 (Option.some Jvm.ClassFile.FieldType.int) Q) (hF : x.1.2.2.2.frames = 2 ∧ x.1.2.2.2.locals = 64) (hC : x.2.2.2.2.2 = (fun _ => false)) (hxt : (∀ z ∈ x.2.2.1.2.1.exceptionTable.toList, False)) (h22 : Snd x 22 X22) : Snd x 56 (bX5_undo_56 E Q X22) := by
  unfold bX5_undo_56
  refine s_aload_n rfl G.b dX5_undo_56 ?_
  refine s_getf G.b G.ow G.kn (G.hts _ q1904) (fun _ h => h) fa_93 dX5_undo_57 ?_
  exact s_ireturn G dX5_undo_60
set_option maxHeartbeats 4000000 in
theorem tX5_undo_22 {x : CX} {E : Nat → Value} {Q : Rs → HS → Prop} {X22 : Ct} (EN : EX x E) (G : Gd x cX5_undo "ChantRulesModel" yX5_undo 2 (Option.some Jvm.ClassFile.FieldType.int) Q) (hF : x.1.2.2.2.frames = 2 ∧ x.1.2.2.2.locals = 64) (hC : x.2.2.2.2.2 = (fun _ => false)) (hxt : (∀ z ∈ x.2.2.1.2.1.exceptionTable.toList, False)) (h22 : Snd x 22 X22) : Snd x 22 (bX5_undo_22 E Q X22) := by
  unfold bX5_undo_22
  refine s_iload_n rfl G.b dX5_undo_22 ?_
  refine s_sipush (by decide) G.b dX5_undo_23 ?_
  refine s_icmpge (tgt := 56) G.b dX5_undo_26 (by decide) (tX5_undo_56 EN G hF hC hxt h22) ?_
  refine s_aload_n rfl G.b dX5_undo_29 ?_
  refine s_getf G.b G.ow G.kn (G.hts _ q1910) (fun _ h => h) fa_73 dX5_undo_30 ?_
  refine s_iload_n rfl G.b dX5_undo_33 ?_
  refine s_aload_n rfl G.b dX5_undo_34 ?_
  refine s_getf G.b G.ow G.kn (G.hts _ q1913) (fun _ h => h) fa_86 dX5_undo_35 ?_
  refine s_aload_n rfl G.b dX5_undo_38 ?_
  refine s_getf G.b G.ow G.kn (G.hts _ q1904) (fun _ h => h) fa_93 dX5_undo_39 ?_
  refine s_sipush (by decide) G.b dX5_undo_42 ?_
  refine s_imul G.b dX5_undo_45 ?_
  refine s_iload_n rfl G.b dX5_undo_46 ?_
  refine s_iadd G.b dX5_undo_47 ?_
  refine s_iald G.b G.kn dX5_undo_48 ?_
  refine s_iast G.b G.kn dX5_undo_49 ?_
  refine s_iinc (by decide) G.b (by rw [G.nl]; decide) (fun _ _ => by rw [hC]) dX5_undo_50 ?_
  exact s_goto (tgt := 22) G.b dX5_undo_53 (by decide) h22
set_option maxHeartbeats 4000000 in
theorem tX5_undo_10 {x : CX} {E : Nat → Value} {Q : Rs → HS → Prop} {X22 : Ct} (EN : EX x E) (G : Gd x cX5_undo "ChantRulesModel" yX5_undo 2 (Option.some Jvm.ClassFile.FieldType.int) Q) (hF : x.1.2.2.2.frames = 2 ∧ x.1.2.2.2.locals = 64) (hC : x.2.2.2.2.2 = (fun _ => false)) (hxt : (∀ z ∈ x.2.2.1.2.1.exceptionTable.toList, False)) (h22 : Snd x 22 X22) : Snd x 10 (bX5_undo_10 E Q X22) := by
  unfold bX5_undo_10
  refine s_aload_n rfl G.b dX5_undo_10 ?_
  refine s_dup G.b dX5_undo_11 ?_
  refine s_getf G.b G.ow G.kn (G.hts _ q1904) (fun _ h => h) fa_93 dX5_undo_12 ?_
  refine s_iconst (by decide) G.b dX5_undo_15 ?_
  refine s_isub G.b dX5_undo_16 ?_
  refine s_putf G.b G.ow G.kn (G.hts _ q1904) (fun _ h => h) fa_93 (la_cons (r := (RX5, TX5, 37)) G.hts (by decide) rfl q1942 (la_nil)) (by decide +kernel) dX5_undo_17 ?_
  refine s_iconst (by decide) G.b dX5_undo_20 ?_
  refine s_istore_n rfl G.b (by rw [G.nl]; decide) (fun _ _ => by rw [hC]) dX5_undo_21 ?_
  exact h22
set_option maxHeartbeats 4000000 in
theorem tX5_undo_0 {x : CX} {E : Nat → Value} {Q : Rs → HS → Prop} {X22 : Ct} (EN : EX x E) (G : Gd x cX5_undo "ChantRulesModel" yX5_undo 2 (Option.some Jvm.ClassFile.FieldType.int) Q) (hF : x.1.2.2.2.frames = 2 ∧ x.1.2.2.2.locals = 64) (hC : x.2.2.2.2.2 = (fun _ => false)) (hxt : (∀ z ∈ x.2.2.1.2.1.exceptionTable.toList, False)) (h22 : Snd x 22 X22) : Snd x 0 (bX5_undo_0 E Q X22) := by
  unfold bX5_undo_0
  refine s_aload_n rfl G.b dX5_undo_0 ?_
  refine s_getf G.b G.ow G.kn (G.hts _ q1904) (fun _ h => h) fa_93 dX5_undo_1 ?_
  refine s_ifne (tgt := 10) G.b dX5_undo_4 (by decide) (tX5_undo_10 EN G hF hC hxt h22) ?_
  refine s_bipush (by decide) G.b dX5_undo_7 ?_
  exact s_ireturn G dX5_undo_9
set_option maxHeartbeats 4000000 in
theorem mX5_undo {l : Launch} {D : DE} {s0 : State} {E : Nat → Value} (EN : EV l D s0 E) : rMet l D s0 yX5_undo (ws_ yX5_undo cX5_undo 2 (Option.some Jvm.ClassFile.FieldType.int)) 2 64 (wX5_undo E) := by
  refine body_met (fun _ => false) EN.kn (fun w h => h) (by decide +kernel) rfl (fun av h Q hw => ?_) ?_
  · unfold wX5_undo at hw
    split at hw
    · exact Nat.le_of_ble_eq_true rfl
    · exact hw.elim
  · intro p e s m below meth c av h Q hxt G hw
    unfold wX5_undo at hw
    split at hw
    · exact tX5_undo_0 EN G ⟨rfl, rfl⟩ rfl hxt (fun _ _ _ h => h) _ _ _ (hw (AW _ 22) (tX5_undo_22 EN G ⟨rfl, rfl⟩ rfl hxt (fun _ _ _ h => h)))
    · exact hw.elim
/-! ChantRulesModel.usefulShare()F (X5_usefulShare) -/
def bX5_usefulShare_49 (E : Nat → Value) (Q : Rs → HS → Prop) (X4 X20 : Ct) : Ct :=
  o_iload 1 <|
  o_i2f <|
  o_aload 0 <|
  o_getf [8] 7 <|
  o_push (.int 0) <|
  o_ald [100] <|
  o_aload 0 <|
  o_getf [8] 7 <|
  o_push (.int 1) <|
  o_ald [100] <|
  o_iadd <|
  o_i2f <|
  o_fdiv <|
  o_freturn Q
def bX5_usefulShare_43 (E : Nat → Value) (Q : Rs → HS → Prop) (X4 X20 : Ct) : Ct :=
  o_iinc 2 1 <|
  X4
def bX5_usefulShare_20 (E : Nat → Value) (Q : Rs → HS → Prop) (X4 X20 : Ct) : Ct :=
  o_iload 3 <|
  o_aload 0 <|
  o_getf [8] 18 <|
  o_icmpge (bX5_usefulShare_43 E Q X4 X20) <|
  o_iload 1 <|
  o_aload 0 <|
  o_getf [8] 20 <|
  o_iload 3 <|
  o_ald [100] <|
  o_iadd <|
  o_istore 1 <|
  o_iinc 3 1 <|
  X20
def bX5_usefulShare_4 (E : Nat → Value) (Q : Rs → HS → Prop) (X4 X20 : Ct) : Ct :=
  o_iload 2 <|
  o_push (.int 2) <|
  o_icmpge (bX5_usefulShare_49 E Q X4 X20) <|
  o_aload 0 <|
  o_iload 2 <|
  o_callV [8] 2 (wX5_laysRule E) (x_out Q) <|
  o_aload 0 <|
  o_callV [8] 1 (wX5_finds E) (x_out Q) <|
  o_push (.int 0) <|
  o_istore 3 <|
  X20
def bX5_usefulShare_0 (E : Nat → Value) (Q : Rs → HS → Prop) (X4 X20 : Ct) : Ct :=
  o_push (.int 0) <|
  o_istore 1 <|
  o_push (.int 0) <|
  o_istore 2 <|
  X4
def wX5_usefulShare (E : Nat → Value) : Wp := fun av h Q => match av with
  | [a0] => ∀ X4 X20 : Ct, (∀ ls st h, bX5_usefulShare_4 E Q X4 X20 ls st h → X4 ls st h) → (∀ ls st h, bX5_usefulShare_20 E Q X4 X20 ls st h → X20 ls st h) → bX5_usefulShare_0 E Q X4 X20 [a0, jk, jk, jk] [] h
  | _ => False
set_option maxHeartbeats 4000000 in
theorem tX5_usefulShare_49 {x : CX} {E : Nat → Value} {Q : Rs → HS → Prop} {X4 X20 : Ct} (EN : EX x E) (G : Gd x cX5_usefulShare "ChantRulesModel" yX5_usefulShare 4 (Option.some Jvm.ClassFile.FieldType.float) Q) (hF : x.1.2.2.2.frames = 4 ∧ x.1.2.2.2.locals = 111) (hC : x.2.2.2.2.2 = (fun _ => false)) (hxt : (∀ z ∈ x.2.2.1.2.1.exceptionTable.toList, False)) (h4 : Snd x 4 X4) (h20 : Snd x 20 X20) : Snd x 49 (bX5_usefulShare_49 E Q X4 X20) := by
  unfold bX5_usefulShare_49
  refine s_iload_n rfl G.b dX5_usefulShare_49 ?_
  refine s_i2f G.b dX5_usefulShare_50 ?_
  refine s_aload_n rfl G.b dX5_usefulShare_51 ?_
  refine s_getf G.b G.ow G.kn (G.hts _ q1910) (fun _ h => h) fa_73 dX5_usefulShare_52 ?_
  refine s_iconst (by decide) G.b dX5_usefulShare_55 ?_
  refine s_iald G.b G.kn dX5_usefulShare_56 ?_
  refine s_aload_n rfl G.b dX5_usefulShare_57 ?_
  refine s_getf G.b G.ow G.kn (G.hts _ q1910) (fun _ h => h) fa_73 dX5_usefulShare_58 ?_
  refine s_iconst (by decide) G.b dX5_usefulShare_61 ?_
  refine s_iald G.b G.kn dX5_usefulShare_62 ?_
  refine s_iadd G.b dX5_usefulShare_63 ?_
  refine s_i2f G.b dX5_usefulShare_64 ?_
  refine s_fdiv G.b dX5_usefulShare_65 ?_
  exact s_freturn G dX5_usefulShare_66
set_option maxHeartbeats 4000000 in
theorem tX5_usefulShare_43 {x : CX} {E : Nat → Value} {Q : Rs → HS → Prop} {X4 X20 : Ct} (EN : EX x E) (G : Gd x cX5_usefulShare "ChantRulesModel" yX5_usefulShare 4 (Option.some Jvm.ClassFile.FieldType.float) Q) (hF : x.1.2.2.2.frames = 4 ∧ x.1.2.2.2.locals = 111) (hC : x.2.2.2.2.2 = (fun _ => false)) (hxt : (∀ z ∈ x.2.2.1.2.1.exceptionTable.toList, False)) (h4 : Snd x 4 X4) (h20 : Snd x 20 X20) : Snd x 43 (bX5_usefulShare_43 E Q X4 X20) := by
  unfold bX5_usefulShare_43
  refine s_iinc (by decide) G.b (by rw [G.nl]; decide) (fun _ _ => by rw [hC]) dX5_usefulShare_43 ?_
  exact s_goto (tgt := 4) G.b dX5_usefulShare_46 (by decide) h4
set_option maxHeartbeats 4000000 in
theorem tX5_usefulShare_20 {x : CX} {E : Nat → Value} {Q : Rs → HS → Prop} {X4 X20 : Ct} (EN : EX x E) (G : Gd x cX5_usefulShare "ChantRulesModel" yX5_usefulShare 4 (Option.some Jvm.ClassFile.FieldType.float) Q) (hF : x.1.2.2.2.frames = 4 ∧ x.1.2.2.2.locals = 111) (hC : x.2.2.2.2.2 = (fun _ => false)) (hxt : (∀ z ∈ x.2.2.1.2.1.exceptionTable.toList, False)) (h4 : Snd x 4 X4) (h20 : Snd x 20 X20) : Snd x 20 (bX5_usefulShare_20 E Q X4 X20) := by
  unfold bX5_usefulShare_20
  refine s_iload_n rfl G.b dX5_usefulShare_20 ?_
  refine s_aload_n rfl G.b dX5_usefulShare_21 ?_
  refine s_getf G.b G.ow G.kn (G.hts _ q1921) (fun _ h => h) fa_100 dX5_usefulShare_22 ?_
  refine s_icmpge (tgt := 43) G.b dX5_usefulShare_25 (by decide) (tX5_usefulShare_43 EN G hF hC hxt h4 h20) ?_
  refine s_iload_n rfl G.b dX5_usefulShare_28 ?_
  refine s_aload_n rfl G.b dX5_usefulShare_29 ?_
  refine s_getf G.b G.ow G.kn (G.hts _ q1923) (fun _ h => h) fa_75 dX5_usefulShare_30 ?_
  refine s_iload_n rfl G.b dX5_usefulShare_33 ?_
  refine s_iald G.b G.kn dX5_usefulShare_34 ?_
  refine s_iadd G.b dX5_usefulShare_35 ?_
  refine s_istore_n rfl G.b (by rw [G.nl]; decide) (fun _ _ => by rw [hC]) dX5_usefulShare_36 ?_
  refine s_iinc (by decide) G.b (by rw [G.nl]; decide) (fun _ _ => by rw [hC]) dX5_usefulShare_37 ?_
  exact s_goto (tgt := 20) G.b dX5_usefulShare_40 (by decide) h20
set_option maxHeartbeats 4000000 in
theorem tX5_usefulShare_4 {x : CX} {E : Nat → Value} {Q : Rs → HS → Prop} {X4 X20 : Ct} (EN : EX x E) (G : Gd x cX5_usefulShare "ChantRulesModel" yX5_usefulShare 4 (Option.some Jvm.ClassFile.FieldType.float) Q) (hF : x.1.2.2.2.frames = 4 ∧ x.1.2.2.2.locals = 111) (hC : x.2.2.2.2.2 = (fun _ => false)) (hxt : (∀ z ∈ x.2.2.1.2.1.exceptionTable.toList, False)) (h4 : Snd x 4 X4) (h20 : Snd x 20 X20) : Snd x 4 (bX5_usefulShare_4 E Q X4 X20) := by
  unfold bX5_usefulShare_4
  refine s_iload_n rfl G.b dX5_usefulShare_4 ?_
  refine s_iconst (by decide) G.b dX5_usefulShare_5 ?_
  refine s_icmpge (tgt := 49) G.b dX5_usefulShare_6 (by decide) (tX5_usefulShare_49 EN G hF hC hxt h4 h20) ?_
  refine s_aload_n rfl G.b dX5_usefulShare_9 ?_
  refine s_iload_n rfl G.b dX5_usefulShare_10 ?_
  refine s_callV G (mX5_laysRule EN) q2118 q2120 (sel_cons (r := (RX5, TX5, 37)) (by decide) rfl qs46 (sel_nil)) q90 q2121 nmk_274 (rm_of hF (Nat.le_of_ble_eq_true rfl) (Nat.le_of_ble_eq_true rfl)) dX5_usefulShare_11 ?_ (sx_out G (fun z hz => (hxt z hz).elim))
  refine s_aload_n rfl G.b dX5_usefulShare_14 ?_
  refine s_callV G (mX5_finds EN) q2126 q2128 (sel_cons (r := (RX5, TX5, 37)) (by decide) rfl qs48 (sel_nil)) q90 q2129 nmk_275 (rm_of hF (Nat.le_of_ble_eq_true rfl) (Nat.le_of_ble_eq_true rfl)) dX5_usefulShare_15 ?_ (sx_out G (fun z hz => (hxt z hz).elim))
  refine s_iconst (by decide) G.b dX5_usefulShare_18 ?_
  refine s_istore_n rfl G.b (by rw [G.nl]; decide) (fun _ _ => by rw [hC]) dX5_usefulShare_19 ?_
  exact h20
set_option maxHeartbeats 4000000 in
theorem tX5_usefulShare_0 {x : CX} {E : Nat → Value} {Q : Rs → HS → Prop} {X4 X20 : Ct} (EN : EX x E) (G : Gd x cX5_usefulShare "ChantRulesModel" yX5_usefulShare 4 (Option.some Jvm.ClassFile.FieldType.float) Q) (hF : x.1.2.2.2.frames = 4 ∧ x.1.2.2.2.locals = 111) (hC : x.2.2.2.2.2 = (fun _ => false)) (hxt : (∀ z ∈ x.2.2.1.2.1.exceptionTable.toList, False)) (h4 : Snd x 4 X4) (h20 : Snd x 20 X20) : Snd x 0 (bX5_usefulShare_0 E Q X4 X20) := by
  unfold bX5_usefulShare_0
  refine s_iconst (by decide) G.b dX5_usefulShare_0 ?_
  refine s_istore_n rfl G.b (by rw [G.nl]; decide) (fun _ _ => by rw [hC]) dX5_usefulShare_1 ?_
  refine s_iconst (by decide) G.b dX5_usefulShare_2 ?_
  refine s_istore_n rfl G.b (by rw [G.nl]; decide) (fun _ _ => by rw [hC]) dX5_usefulShare_3 ?_
  exact h4
set_option maxHeartbeats 4000000 in
theorem mX5_usefulShare {l : Launch} {D : DE} {s0 : State} {E : Nat → Value} (EN : EV l D s0 E) : rMet l D s0 yX5_usefulShare (ws_ yX5_usefulShare cX5_usefulShare 4 (Option.some Jvm.ClassFile.FieldType.float)) 4 111 (wX5_usefulShare E) := by
  refine body_met (fun _ => false) EN.kn (fun w h => h) (by decide +kernel) rfl (fun av h Q hw => ?_) ?_
  · unfold wX5_usefulShare at hw
    split at hw
    · exact Nat.le_of_ble_eq_true rfl
    · exact hw.elim
  · intro p e s m below meth c av h Q hxt G hw
    unfold wX5_usefulShare at hw
    split at hw
    · exact tX5_usefulShare_0 EN G ⟨rfl, rfl⟩ rfl hxt (fun _ _ _ h => h) (fun _ _ _ h => h) _ _ _ (hw (AW _ 4) (AW _ 20) (tX5_usefulShare_4 EN G ⟨rfl, rfl⟩ rfl hxt (fun _ _ _ h => h) (fun _ _ _ h => h)) (tX5_usefulShare_20 EN G ⟨rfl, rfl⟩ rfl hxt (fun _ _ _ h => h) (fun _ _ _ h => h)))
    · exact hw.elim
/-! ChantRulesModel.weigh(III)I (X5_weigh) -/
def bX5_weigh_0 (E : Nat → Value) (Q : Rs → HS → Prop) : Ct :=
  o_aload 0 <|
  o_callV [8] 1 (wX5_begins E) (x_out Q) <|
  o_aload 0 <|
  o_aload 0 <|
  o_iload 1 <|
  o_iload 2 <|
  o_iload 3 <|
  o_callV [8] 4 (wX5_weighs E) (x_out Q) <|
  o_callV [8] 2 (wX5_ends E) (x_out Q) <|
  o_ireturn .int Q
def wX5_weigh (E : Nat → Value) : Wp := fun av h Q => match av with
  | [a0, a1, a2, a3] => bX5_weigh_0 E Q [a0, a1, a2, a3] [] h
  | _ => False
set_option maxHeartbeats 4000000 in
theorem tX5_weigh_0 {x : CX} {E : Nat → Value} {Q : Rs → HS → Prop} (EN : EX x E) (G : Gd x cX5_weigh "ChantRulesModel" yX5_weigh 4 (Option.some Jvm.ClassFile.FieldType.int) Q) (hF : x.1.2.2.2.frames = 6 ∧ x.1.2.2.2.locals = 152) (hC : x.2.2.2.2.2 = (fun _ => false)) (hxt : (∀ z ∈ x.2.2.1.2.1.exceptionTable.toList, False)) : Snd x 0 (bX5_weigh_0 E Q) := by
  unfold bX5_weigh_0
  refine s_aload_n rfl G.b dX5_weigh_0 ?_
  refine s_callV G (mX5_begins EN) q2019 q2021 (sel_cons (r := (RX5, TX5, 37)) (by decide) rfl qs32 (sel_nil)) q90 q2022 nmk_258 (rm_of hF (Nat.le_of_ble_eq_true rfl) (Nat.le_of_ble_eq_true rfl)) dX5_weigh_1 ?_ (sx_out G (fun z hz => (hxt z hz).elim))
  refine s_aload_n rfl G.b dX5_weigh_4 ?_
  refine s_aload_n rfl G.b dX5_weigh_5 ?_
  refine s_iload_n rfl G.b dX5_weigh_6 ?_
  refine s_iload_n rfl G.b dX5_weigh_7 ?_
  refine s_iload_n rfl G.b dX5_weigh_8 ?_
  refine s_callV G (mX5_weighs EN) q2086 q2088 (sel_cons (r := (RX5, TX5, 37)) (by decide) rfl qs42 (sel_nil)) q90 q2089 nmk_287 (rm_of hF (Nat.le_of_ble_eq_true rfl) (Nat.le_of_ble_eq_true rfl)) dX5_weigh_9 ?_ (sx_out G (fun z hz => (hxt z hz).elim))
  refine s_callV G (mX5_ends EN) q2047 q2049 (sel_cons (r := (RX5, TX5, 37)) (by decide) rfl qs36 (sel_nil)) q90 q2050 nmk_260 (rm_of hF (Nat.le_of_ble_eq_true rfl) (Nat.le_of_ble_eq_true rfl)) dX5_weigh_12 ?_ (sx_out G (fun z hz => (hxt z hz).elim))
  exact s_ireturn G dX5_weigh_15
set_option maxHeartbeats 4000000 in
theorem mX5_weigh {l : Launch} {D : DE} {s0 : State} {E : Nat → Value} (EN : EV l D s0 E) : rMet l D s0 yX5_weigh (ws_ yX5_weigh cX5_weigh 4 (Option.some Jvm.ClassFile.FieldType.int)) 6 152 (wX5_weigh E) := by
  refine body_met (fun _ => false) EN.kn (fun w h => h) (by decide +kernel) rfl (fun av h Q hw => ?_) ?_
  · unfold wX5_weigh at hw
    split at hw
    · exact Nat.le_of_ble_eq_true rfl
    · exact hw.elim
  · intro p e s m below meth c av h Q hxt G hw
    unfold wX5_weigh at hw
    split at hw
    · exact tX5_weigh_0 EN G ⟨rfl, rfl⟩ rfl hxt _ _ _ hw
    · exact hw.elim
/-! ChantRulesLaw.law([I)Z (L_law) -/
theorem nmk_298 : nm_ok yX0_restore 0 := ⟨by decide +kernel, by decide +kernel, by decide +kernel⟩
theorem nmk_299 : nm_ok yX5_restore 0 := ⟨by decide +kernel, by decide +kernel, by decide +kernel⟩
theorem nmk_300 : nm_ok yX0_save 0 := ⟨by decide +kernel, by decide +kernel, by decide +kernel⟩
theorem nmk_301 : nm_ok yX5_save 0 := ⟨by decide +kernel, by decide +kernel, by decide +kernel⟩
theorem nmk_302 : nm_ok yX0_undo 0 := ⟨by decide +kernel, by decide +kernel, by decide +kernel⟩
theorem nmk_303 : nm_ok yX5_undo 0 := ⟨by decide +kernel, by decide +kernel, by decide +kernel⟩
theorem nmk_304 : nm_ok yX0_usefulShare 0 := ⟨by decide +kernel, by decide +kernel, by decide +kernel⟩
theorem nmk_305 : nm_ok yX5_usefulShare 0 := ⟨by decide +kernel, by decide +kernel, by decide +kernel⟩
theorem nmk_306 : nm_ok yX0_meanWeight 0 := ⟨by decide +kernel, by decide +kernel, by decide +kernel⟩
theorem nmk_307 : nm_ok yX5_meanWeight 0 := ⟨by decide +kernel, by decide +kernel, by decide +kernel⟩
theorem nmk_308 : nm_ok yX0_isBalanced 0 := ⟨by decide +kernel, by decide +kernel, by decide +kernel⟩
theorem nmk_309 : nm_ok yX5_isBalanced 0 := ⟨by decide +kernel, by decide +kernel, by decide +kernel⟩
theorem nmk_310 : nm_ok yX0_account 1 := ⟨by decide +kernel, by decide +kernel, by decide +kernel⟩
theorem nmk_311 : nm_ok yX5_account 1 := ⟨by decide +kernel, by decide +kernel, by decide +kernel⟩
theorem nmk_312 : nm_ok yX5_reason 2 := ⟨by decide +kernel, by decide +kernel, by decide +kernel⟩
theorem nmk_313 : nm_ok yX0_reason 2 := ⟨by decide +kernel, by decide +kernel, by decide +kernel⟩
theorem nmk_314 : nm_ok yX0_character 1 := ⟨by decide +kernel, by decide +kernel, by decide +kernel⟩
theorem nmk_315 : nm_ok yX5_character 1 := ⟨by decide +kernel, by decide +kernel, by decide +kernel⟩
theorem nmk_316 : nm_ok yX0_tellStates 1 := ⟨by decide +kernel, by decide +kernel, by decide +kernel⟩
theorem nmk_317 : nm_ok yX5_tellStates 1 := ⟨by decide +kernel, by decide +kernel, by decide +kernel⟩
theorem nmk_318 : nm_ok yX0_tell 2 := ⟨by decide +kernel, by decide +kernel, by decide +kernel⟩
theorem nmk_319 : nm_ok yX5_tell 2 := ⟨by decide +kernel, by decide +kernel, by decide +kernel⟩
theorem nmk_320 : nm_ok yX0_run 0 := ⟨by decide +kernel, by decide +kernel, by decide +kernel⟩
theorem nmk_321 : nm_ok yX5_run 0 := ⟨by decide +kernel, by decide +kernel, by decide +kernel⟩
theorem nmk_322 : nm_ok yX0_clear 0 := ⟨by decide +kernel, by decide +kernel, by decide +kernel⟩
theorem nmk_323 : nm_ok yX5_clear 0 := ⟨by decide +kernel, by decide +kernel, by decide +kernel⟩
theorem nmk_324 : nm_ok yX0_append 1 := ⟨by decide +kernel, by decide +kernel, by decide +kernel⟩
theorem nmk_325 : nm_ok yX5_append 1 := ⟨by decide +kernel, by decide +kernel, by decide +kernel⟩
theorem nmk_326 : nm_ok yX0_ranked 2 := ⟨by decide +kernel, by decide +kernel, by decide +kernel⟩
theorem nmk_327 : nm_ok yX5_ranked 2 := ⟨by decide +kernel, by decide +kernel, by decide +kernel⟩
theorem nmk_328 : nm_ok yX0_breathes 1 := ⟨by decide +kernel, by decide +kernel, by decide +kernel⟩
theorem nmk_329 : nm_ok yX5_breathes 1 := ⟨by decide +kernel, by decide +kernel, by decide +kernel⟩
theorem nmk_330 : nm_ok yX0_shortest 1 := ⟨by decide +kernel, by decide +kernel, by decide +kernel⟩
theorem nmk_331 : nm_ok yX5_shortest 1 := ⟨by decide +kernel, by decide +kernel, by decide +kernel⟩
theorem nmk_332 : nm_ok yX0_cheapest 1 := ⟨by decide +kernel, by decide +kernel, by decide +kernel⟩
theorem nmk_333 : nm_ok yX5_cheapest 1 := ⟨by decide +kernel, by decide +kernel, by decide +kernel⟩
theorem nmk_334 : nm_ok yX0_composed 1 := ⟨by decide +kernel, by decide +kernel, by decide +kernel⟩
theorem nmk_335 : nm_ok yX5_composed 1 := ⟨by decide +kernel, by decide +kernel, by decide +kernel⟩
theorem nmk_336 : nm_ok yX0_singBoth 0 := ⟨by decide +kernel, by decide +kernel, by decide +kernel⟩
theorem nmk_337 : nm_ok yX5_singBoth 0 := ⟨by decide +kernel, by decide +kernel, by decide +kernel⟩
theorem nmk_338 : nm_ok yX0_bothAgain 0 := ⟨by decide +kernel, by decide +kernel, by decide +kernel⟩
theorem nmk_339 : nm_ok yX5_bothAgain 0 := ⟨by decide +kernel, by decide +kernel, by decide +kernel⟩
theorem nmk_340 : nm_ok yX0_both 0 := ⟨by decide +kernel, by decide +kernel, by decide +kernel⟩
theorem nmk_341 : nm_ok yX0_sing 1 := ⟨by decide +kernel, by decide +kernel, by decide +kernel⟩
theorem nmk_342 : nm_ok yX5_sing 1 := ⟨by decide +kernel, by decide +kernel, by decide +kernel⟩
theorem nmk_343 : nm_ok yX0_least 1 := ⟨by decide +kernel, by decide +kernel, by decide +kernel⟩
theorem nmk_344 : nm_ok yX5_least 1 := ⟨by decide +kernel, by decide +kernel, by decide +kernel⟩
theorem nmk_345 : nm_ok yX0_stateOf 3 := ⟨by decide +kernel, by decide +kernel, by decide +kernel⟩
theorem nmk_346 : nm_ok yX5_stateOf 3 := ⟨by decide +kernel, by decide +kernel, by decide +kernel⟩
theorem nmk_347 : nm_ok yX0_arcOf_2 3 := ⟨by decide +kernel, by decide +kernel, by decide +kernel⟩
theorem nmk_348 : nm_ok yX5_arcOf 3 := ⟨by decide +kernel, by decide +kernel, by decide +kernel⟩
theorem nmk_349 : nm_ok yX0_turn 1 := ⟨by decide +kernel, by decide +kernel, by decide +kernel⟩
theorem nmk_350 : nm_ok yX5_turn 1 := ⟨by decide +kernel, by decide +kernel, by decide +kernel⟩
theorem nmk_351 : nm_ok yX0_drop 2 := ⟨by decide +kernel, by decide +kernel, by decide +kernel⟩
theorem nmk_352 : nm_ok yX5_drop 2 := ⟨by decide +kernel, by decide +kernel, by decide +kernel⟩
theorem nmk_353 : nm_ok yX0_weigh 3 := ⟨by decide +kernel, by decide +kernel, by decide +kernel⟩
theorem nmk_354 : nm_ok yX5_weigh 3 := ⟨by decide +kernel, by decide +kernel, by decide +kernel⟩
theorem nmk_355 : nm_ok yX5_arc 6 := ⟨by decide +kernel, by decide +kernel, by decide +kernel⟩
theorem nmk_356 : nm_ok yX0_arc 6 := ⟨by decide +kernel, by decide +kernel, by decide +kernel⟩
theorem nmk_357 : nm_ok yX0_end 3 := ⟨by decide +kernel, by decide +kernel, by decide +kernel⟩
theorem nmk_358 : nm_ok yX5_end 3 := ⟨by decide +kernel, by decide +kernel, by decide +kernel⟩
theorem nmk_359 : nm_ok yX0_state 1 := ⟨by decide +kernel, by decide +kernel, by decide +kernel⟩
theorem nmk_360 : nm_ok yX5_state 1 := ⟨by decide +kernel, by decide +kernel, by decide +kernel⟩
theorem nmk_361 : nm_ok yX0_init 0 := ⟨by decide +kernel, by decide +kernel, by decide +kernel⟩
theorem nmk_362 : nm_ok yX5_init 0 := ⟨by decide +kernel, by decide +kernel, by decide +kernel⟩
def bL_law_1070 (E : Nat → Value) (Q : Rs → HS → Prop) (X18 : Ct) : Ct :=
  o_push (.int 1) <|
  o_ireturn .boolean Q
def bL_law_1064 (E : Nat → Value) (Q : Rs → HS → Prop) (X18 : Ct) : Ct :=
  o_iinc 3 7 <|
  X18
def bL_law_1051 (E : Nat → Value) (Q : Rs → HS → Prop) (X18 : Ct) : Ct :=
  o_aload 1 <|
  o_callV [0] 1 (wX0_restore E) (x_out Q) <|
  o_aload 2 <|
  o_callV [8] 1 (wX5_restore E) (x_out Q) <|
  o_icmpeq (bL_law_1064 E Q X18) <|
  o_push (.int 0) <|
  o_ireturn .boolean Q
def bL_law_1038 (E : Nat → Value) (Q : Rs → HS → Prop) (X18 : Ct) : Ct :=
  o_aload 1 <|
  o_callV [0] 1 (wX0_save E) (x_out Q) <|
  o_aload 2 <|
  o_callV [8] 1 (wX5_save E) (x_out Q) <|
  o_icmpeq (bL_law_1064 E Q X18) <|
  o_push (.int 0) <|
  o_ireturn .boolean Q
def bL_law_1025 (E : Nat → Value) (Q : Rs → HS → Prop) (X18 : Ct) : Ct :=
  o_aload 1 <|
  o_callV [0] 1 (wX0_undo E) (x_out Q) <|
  o_aload 2 <|
  o_callV [8] 1 (wX5_undo E) (x_out Q) <|
  o_icmpeq (bL_law_1064 E Q X18) <|
  o_push (.int 0) <|
  o_ireturn .boolean Q
def bL_law_1022 (E : Nat → Value) (Q : Rs → HS → Prop) (X18 : Ct) : Ct :=
  (bL_law_1064 E Q X18)
def bL_law_1020 (E : Nat → Value) (Q : Rs → HS → Prop) (X18 : Ct) : Ct :=
  o_push (.int 0) <|
  o_ireturn .boolean Q
def bL_law_982 (E : Nat → Value) (Q : Rs → HS → Prop) (X18 : Ct) : Ct :=
  o_aload 1 <|
  o_callV [0] 1 (wX0_usefulShare E) (x_out Q) <|
  o_f2d <|
  o_dstore 4 <|
  o_aload 2 <|
  o_callV [8] 1 (wX5_usefulShare E) (x_out Q) <|
  o_f2d <|
  o_dstore 6 <|
  o_dload 4 <|
  o_dload 6 <|
  o_dcmp .l <|
  o_ifeq (bL_law_1022 E Q X18) <|
  o_dload 4 <|
  o_dload 4 <|
  o_dcmp .l <|
  o_ifeq (bL_law_1020 E Q X18) <|
  o_dload 6 <|
  o_dload 6 <|
  o_dcmp .l <|
  o_ifne (bL_law_1022 E Q X18) <|
  (bL_law_1020 E Q X18)
def bL_law_979 (E : Nat → Value) (Q : Rs → HS → Prop) (X18 : Ct) : Ct :=
  (bL_law_1064 E Q X18)
def bL_law_977 (E : Nat → Value) (Q : Rs → HS → Prop) (X18 : Ct) : Ct :=
  o_push (.int 0) <|
  o_ireturn .boolean Q
def bL_law_941 (E : Nat → Value) (Q : Rs → HS → Prop) (X18 : Ct) : Ct :=
  o_aload 1 <|
  o_callV [0] 1 (wX0_meanWeight E) (x_out Q) <|
  o_dstore 4 <|
  o_aload 2 <|
  o_callV [8] 1 (wX5_meanWeight E) (x_out Q) <|
  o_dstore 6 <|
  o_dload 4 <|
  o_dload 6 <|
  o_dcmp .l <|
  o_ifeq (bL_law_979 E Q X18) <|
  o_dload 4 <|
  o_dload 4 <|
  o_dcmp .l <|
  o_ifeq (bL_law_977 E Q X18) <|
  o_dload 6 <|
  o_dload 6 <|
  o_dcmp .l <|
  o_ifne (bL_law_979 E Q X18) <|
  (bL_law_977 E Q X18)
def bL_law_928 (E : Nat → Value) (Q : Rs → HS → Prop) (X18 : Ct) : Ct :=
  o_aload 1 <|
  o_callV [0] 1 (wX0_isBalanced E) (x_out Q) <|
  o_aload 2 <|
  o_callV [8] 1 (wX5_isBalanced E) (x_out Q) <|
  o_icmpeq (bL_law_1064 E Q X18) <|
  o_push (.int 0) <|
  o_ireturn .boolean Q
def bL_law_905 (E : Nat → Value) (Q : Rs → HS → Prop) (X18 : Ct) : Ct :=
  o_aload 1 <|
  o_aload 0 <|
  o_iload 3 <|
  o_push (.int 1) <|
  o_iadd <|
  o_sld E <|
  o_callV [0] 2 (wX0_account E) (x_out Q) <|
  o_aload 2 <|
  o_aload 0 <|
  o_iload 3 <|
  o_push (.int 1) <|
  o_iadd <|
  o_sld E <|
  o_callV [8] 2 (wX5_account E) (x_out Q) <|
  o_icmpeq (bL_law_1064 E Q X18) <|
  o_push (.int 0) <|
  o_ireturn .boolean Q
def bL_law_897 (E : Nat → Value) (Q : Rs → HS → Prop) (X18 : Ct) : Ct :=
  o_callV [8] 3 (wX5_reason E) (x_out Q) <|
  o_icmpeq (bL_law_1064 E Q X18) <|
  o_push (.int 0) <|
  o_ireturn .boolean Q
def bL_law_896 (E : Nat → Value) (Q : Rs → HS → Prop) (X18 : Ct) : Ct :=
  o_push (.int 0) <|
  (bL_law_897 E Q X18)
def bL_law_884 (E : Nat → Value) (Q : Rs → HS → Prop) (X18 : Ct) : Ct :=
  o_aload 0 <|
  o_iload 3 <|
  o_push (.int 2) <|
  o_iadd <|
  o_sld E <|
  o_ifeq (bL_law_896 E Q X18) <|
  o_push (.int 1) <|
  (bL_law_897 E Q X18)
def bL_law_883 (E : Nat → Value) (Q : Rs → HS → Prop) (X18 : Ct) : Ct :=
  o_push (.int 0) <|
  (bL_law_884 E Q X18)
def bL_law_867 (E : Nat → Value) (Q : Rs → HS → Prop) (X18 : Ct) : Ct :=
  o_callV [0] 3 (wX0_reason E) (x_out Q) <|
  o_aload 2 <|
  o_aload 0 <|
  o_iload 3 <|
  o_push (.int 1) <|
  o_iadd <|
  o_sld E <|
  o_ifeq (bL_law_883 E Q X18) <|
  o_push (.int 1) <|
  (bL_law_884 E Q X18)
def bL_law_866 (E : Nat → Value) (Q : Rs → HS → Prop) (X18 : Ct) : Ct :=
  o_push (.int 0) <|
  (bL_law_867 E Q X18)
def bL_law_854 (E : Nat → Value) (Q : Rs → HS → Prop) (X18 : Ct) : Ct :=
  o_aload 0 <|
  o_iload 3 <|
  o_push (.int 2) <|
  o_iadd <|
  o_sld E <|
  o_ifeq (bL_law_866 E Q X18) <|
  o_push (.int 1) <|
  (bL_law_867 E Q X18)
def bL_law_853 (E : Nat → Value) (Q : Rs → HS → Prop) (X18 : Ct) : Ct :=
  o_push (.int 0) <|
  (bL_law_854 E Q X18)
def bL_law_840 (E : Nat → Value) (Q : Rs → HS → Prop) (X18 : Ct) : Ct :=
  o_aload 1 <|
  o_aload 0 <|
  o_iload 3 <|
  o_push (.int 1) <|
  o_iadd <|
  o_sld E <|
  o_ifeq (bL_law_853 E Q X18) <|
  o_push (.int 1) <|
  (bL_law_854 E Q X18)
def bL_law_817 (E : Nat → Value) (Q : Rs → HS → Prop) (X18 : Ct) : Ct :=
  o_aload 1 <|
  o_aload 0 <|
  o_iload 3 <|
  o_push (.int 1) <|
  o_iadd <|
  o_sld E <|
  o_callV [0] 2 (wX0_character E) (x_out Q) <|
  o_aload 2 <|
  o_aload 0 <|
  o_iload 3 <|
  o_push (.int 1) <|
  o_iadd <|
  o_sld E <|
  o_callV [8] 2 (wX5_character E) (x_out Q) <|
  o_icmpeq (bL_law_1064 E Q X18) <|
  o_push (.int 0) <|
  o_ireturn .boolean Q
def bL_law_794 (E : Nat → Value) (Q : Rs → HS → Prop) (X18 : Ct) : Ct :=
  o_aload 1 <|
  o_aload 0 <|
  o_iload 3 <|
  o_push (.int 1) <|
  o_iadd <|
  o_sld E <|
  o_callV [0] 2 (wX0_tellStates E) (x_out Q) <|
  o_aload 2 <|
  o_aload 0 <|
  o_iload 3 <|
  o_push (.int 1) <|
  o_iadd <|
  o_sld E <|
  o_callV [8] 2 (wX5_tellStates E) (x_out Q) <|
  o_icmpeq (bL_law_1064 E Q X18) <|
  o_push (.int 0) <|
  o_ireturn .boolean Q
def bL_law_761 (E : Nat → Value) (Q : Rs → HS → Prop) (X18 : Ct) : Ct :=
  o_aload 1 <|
  o_aload 0 <|
  o_iload 3 <|
  o_push (.int 1) <|
  o_iadd <|
  o_sld E <|
  o_aload 0 <|
  o_iload 3 <|
  o_push (.int 2) <|
  o_iadd <|
  o_sld E <|
  o_callV [0] 3 (wX0_tell E) (x_out Q) <|
  o_aload 2 <|
  o_aload 0 <|
  o_iload 3 <|
  o_push (.int 1) <|
  o_iadd <|
  o_sld E <|
  o_aload 0 <|
  o_iload 3 <|
  o_push (.int 2) <|
  o_iadd <|
  o_sld E <|
  o_callV [8] 3 (wX5_tell E) (x_out Q) <|
  o_icmpeq (bL_law_1064 E Q X18) <|
  o_push (.int 0) <|
  o_ireturn .boolean Q
def bL_law_748 (E : Nat → Value) (Q : Rs → HS → Prop) (X18 : Ct) : Ct :=
  o_aload 1 <|
  o_callV [0] 1 (wX0_run E) (x_out Q) <|
  o_aload 2 <|
  o_callV [8] 1 (wX5_run E) (x_out Q) <|
  o_icmpeq (bL_law_1064 E Q X18) <|
  o_push (.int 0) <|
  o_ireturn .boolean Q
def bL_law_735 (E : Nat → Value) (Q : Rs → HS → Prop) (X18 : Ct) : Ct :=
  o_aload 1 <|
  o_callV [0] 1 (wX0_clear E) (x_out Q) <|
  o_aload 2 <|
  o_callV [8] 1 (wX5_clear E) (x_out Q) <|
  o_icmpeq (bL_law_1064 E Q X18) <|
  o_push (.int 0) <|
  o_ireturn .boolean Q
def bL_law_712 (E : Nat → Value) (Q : Rs → HS → Prop) (X18 : Ct) : Ct :=
  o_aload 1 <|
  o_aload 0 <|
  o_iload 3 <|
  o_push (.int 1) <|
  o_iadd <|
  o_sld E <|
  o_callV [0] 2 (wX0_append E) (x_out Q) <|
  o_aload 2 <|
  o_aload 0 <|
  o_iload 3 <|
  o_push (.int 1) <|
  o_iadd <|
  o_sld E <|
  o_callV [8] 2 (wX5_append E) (x_out Q) <|
  o_icmpeq (bL_law_1064 E Q X18) <|
  o_push (.int 0) <|
  o_ireturn .boolean Q
def bL_law_679 (E : Nat → Value) (Q : Rs → HS → Prop) (X18 : Ct) : Ct :=
  o_aload 1 <|
  o_aload 0 <|
  o_iload 3 <|
  o_push (.int 1) <|
  o_iadd <|
  o_sld E <|
  o_aload 0 <|
  o_iload 3 <|
  o_push (.int 2) <|
  o_iadd <|
  o_sld E <|
  o_callV [0] 3 (wX0_ranked E) (x_out Q) <|
  o_aload 2 <|
  o_aload 0 <|
  o_iload 3 <|
  o_push (.int 1) <|
  o_iadd <|
  o_sld E <|
  o_aload 0 <|
  o_iload 3 <|
  o_push (.int 2) <|
  o_iadd <|
  o_sld E <|
  o_callV [8] 3 (wX5_ranked E) (x_out Q) <|
  o_icmpeq (bL_law_1064 E Q X18) <|
  o_push (.int 0) <|
  o_ireturn .boolean Q
def bL_law_656 (E : Nat → Value) (Q : Rs → HS → Prop) (X18 : Ct) : Ct :=
  o_aload 1 <|
  o_aload 0 <|
  o_iload 3 <|
  o_push (.int 1) <|
  o_iadd <|
  o_sld E <|
  o_callV [0] 2 (wX0_breathes E) (x_out Q) <|
  o_aload 2 <|
  o_aload 0 <|
  o_iload 3 <|
  o_push (.int 1) <|
  o_iadd <|
  o_sld E <|
  o_callV [8] 2 (wX5_breathes E) (x_out Q) <|
  o_icmpeq (bL_law_1064 E Q X18) <|
  o_push (.int 0) <|
  o_ireturn .boolean Q
def bL_law_633 (E : Nat → Value) (Q : Rs → HS → Prop) (X18 : Ct) : Ct :=
  o_aload 1 <|
  o_aload 0 <|
  o_iload 3 <|
  o_push (.int 1) <|
  o_iadd <|
  o_sld E <|
  o_callV [0] 2 (wX0_shortest E) (x_out Q) <|
  o_aload 2 <|
  o_aload 0 <|
  o_iload 3 <|
  o_push (.int 1) <|
  o_iadd <|
  o_sld E <|
  o_callV [8] 2 (wX5_shortest E) (x_out Q) <|
  o_icmpeq (bL_law_1064 E Q X18) <|
  o_push (.int 0) <|
  o_ireturn .boolean Q
def bL_law_610 (E : Nat → Value) (Q : Rs → HS → Prop) (X18 : Ct) : Ct :=
  o_aload 1 <|
  o_aload 0 <|
  o_iload 3 <|
  o_push (.int 1) <|
  o_iadd <|
  o_sld E <|
  o_callV [0] 2 (wX0_cheapest E) (x_out Q) <|
  o_aload 2 <|
  o_aload 0 <|
  o_iload 3 <|
  o_push (.int 1) <|
  o_iadd <|
  o_sld E <|
  o_callV [8] 2 (wX5_cheapest E) (x_out Q) <|
  o_icmpeq (bL_law_1064 E Q X18) <|
  o_push (.int 0) <|
  o_ireturn .boolean Q
def bL_law_587 (E : Nat → Value) (Q : Rs → HS → Prop) (X18 : Ct) : Ct :=
  o_aload 1 <|
  o_aload 0 <|
  o_iload 3 <|
  o_push (.int 1) <|
  o_iadd <|
  o_sld E <|
  o_callV [0] 2 (wX0_composed E) (x_out Q) <|
  o_aload 2 <|
  o_aload 0 <|
  o_iload 3 <|
  o_push (.int 1) <|
  o_iadd <|
  o_sld E <|
  o_callV [8] 2 (wX5_composed E) (x_out Q) <|
  o_icmpeq (bL_law_1064 E Q X18) <|
  o_push (.int 0) <|
  o_ireturn .boolean Q
def bL_law_574 (E : Nat → Value) (Q : Rs → HS → Prop) (X18 : Ct) : Ct :=
  o_aload 1 <|
  o_callV [0] 1 (wX0_singBoth E) (x_out Q) <|
  o_aload 2 <|
  o_callV [8] 1 (wX5_singBoth E) (x_out Q) <|
  o_icmpeq (bL_law_1064 E Q X18) <|
  o_push (.int 0) <|
  o_ireturn .boolean Q
def bL_law_561 (E : Nat → Value) (Q : Rs → HS → Prop) (X18 : Ct) : Ct :=
  o_aload 1 <|
  o_callV [0] 1 (wX0_bothAgain E) (x_out Q) <|
  o_aload 2 <|
  o_callV [8] 1 (wX5_bothAgain E) (x_out Q) <|
  o_icmpeq (bL_law_1064 E Q X18) <|
  o_push (.int 0) <|
  o_ireturn .boolean Q
def bL_law_548 (E : Nat → Value) (Q : Rs → HS → Prop) (X18 : Ct) : Ct :=
  o_aload 1 <|
  o_callV [0] 1 (wX0_both E) (x_out Q) <|
  o_aload 2 <|
  o_callV [8] 1 (wX5_both E) (x_out Q) <|
  o_icmpeq (bL_law_1064 E Q X18) <|
  o_push (.int 0) <|
  o_ireturn .boolean Q
def bL_law_525 (E : Nat → Value) (Q : Rs → HS → Prop) (X18 : Ct) : Ct :=
  o_aload 1 <|
  o_aload 0 <|
  o_iload 3 <|
  o_push (.int 1) <|
  o_iadd <|
  o_sld E <|
  o_callV [0] 2 (wX0_sing E) (x_out Q) <|
  o_aload 2 <|
  o_aload 0 <|
  o_iload 3 <|
  o_push (.int 1) <|
  o_iadd <|
  o_sld E <|
  o_callV [8] 2 (wX5_sing E) (x_out Q) <|
  o_icmpeq (bL_law_1064 E Q X18) <|
  o_push (.int 0) <|
  o_ireturn .boolean Q
def bL_law_502 (E : Nat → Value) (Q : Rs → HS → Prop) (X18 : Ct) : Ct :=
  o_aload 1 <|
  o_aload 0 <|
  o_iload 3 <|
  o_push (.int 1) <|
  o_iadd <|
  o_sld E <|
  o_callV [0] 2 (wX0_least E) (x_out Q) <|
  o_aload 2 <|
  o_aload 0 <|
  o_iload 3 <|
  o_push (.int 1) <|
  o_iadd <|
  o_sld E <|
  o_callV [8] 2 (wX5_least E) (x_out Q) <|
  o_icmpeq (bL_law_1064 E Q X18) <|
  o_push (.int 0) <|
  o_ireturn .boolean Q
def bL_law_459 (E : Nat → Value) (Q : Rs → HS → Prop) (X18 : Ct) : Ct :=
  o_aload 1 <|
  o_aload 0 <|
  o_iload 3 <|
  o_push (.int 1) <|
  o_iadd <|
  o_sld E <|
  o_aload 0 <|
  o_iload 3 <|
  o_push (.int 2) <|
  o_iadd <|
  o_sld E <|
  o_aload 0 <|
  o_iload 3 <|
  o_push (.int 3) <|
  o_iadd <|
  o_sld E <|
  o_callV [0] 4 (wX0_stateOf E) (x_out Q) <|
  o_aload 2 <|
  o_aload 0 <|
  o_iload 3 <|
  o_push (.int 1) <|
  o_iadd <|
  o_sld E <|
  o_aload 0 <|
  o_iload 3 <|
  o_push (.int 2) <|
  o_iadd <|
  o_sld E <|
  o_aload 0 <|
  o_iload 3 <|
  o_push (.int 3) <|
  o_iadd <|
  o_sld E <|
  o_callV [8] 4 (wX5_stateOf E) (x_out Q) <|
  o_icmpeq (bL_law_1064 E Q X18) <|
  o_push (.int 0) <|
  o_ireturn .boolean Q
def bL_law_416 (E : Nat → Value) (Q : Rs → HS → Prop) (X18 : Ct) : Ct :=
  o_aload 1 <|
  o_aload 0 <|
  o_iload 3 <|
  o_push (.int 1) <|
  o_iadd <|
  o_sld E <|
  o_aload 0 <|
  o_iload 3 <|
  o_push (.int 2) <|
  o_iadd <|
  o_sld E <|
  o_aload 0 <|
  o_iload 3 <|
  o_push (.int 3) <|
  o_iadd <|
  o_sld E <|
  o_callV [0] 4 (wX0_arcOf_2 E) (x_out Q) <|
  o_aload 2 <|
  o_aload 0 <|
  o_iload 3 <|
  o_push (.int 1) <|
  o_iadd <|
  o_sld E <|
  o_aload 0 <|
  o_iload 3 <|
  o_push (.int 2) <|
  o_iadd <|
  o_sld E <|
  o_aload 0 <|
  o_iload 3 <|
  o_push (.int 3) <|
  o_iadd <|
  o_sld E <|
  o_callV [8] 4 (wX5_arcOf E) (x_out Q) <|
  o_icmpeq (bL_law_1064 E Q X18) <|
  o_push (.int 0) <|
  o_ireturn .boolean Q
def bL_law_393 (E : Nat → Value) (Q : Rs → HS → Prop) (X18 : Ct) : Ct :=
  o_aload 1 <|
  o_aload 0 <|
  o_iload 3 <|
  o_push (.int 1) <|
  o_iadd <|
  o_sld E <|
  o_callV [0] 2 (wX0_turn E) (x_out Q) <|
  o_aload 2 <|
  o_aload 0 <|
  o_iload 3 <|
  o_push (.int 1) <|
  o_iadd <|
  o_sld E <|
  o_callV [8] 2 (wX5_turn E) (x_out Q) <|
  o_icmpeq (bL_law_1064 E Q X18) <|
  o_push (.int 0) <|
  o_ireturn .boolean Q
def bL_law_360 (E : Nat → Value) (Q : Rs → HS → Prop) (X18 : Ct) : Ct :=
  o_aload 1 <|
  o_aload 0 <|
  o_iload 3 <|
  o_push (.int 1) <|
  o_iadd <|
  o_sld E <|
  o_aload 0 <|
  o_iload 3 <|
  o_push (.int 2) <|
  o_iadd <|
  o_sld E <|
  o_callV [0] 3 (wX0_drop E) (x_out Q) <|
  o_aload 2 <|
  o_aload 0 <|
  o_iload 3 <|
  o_push (.int 1) <|
  o_iadd <|
  o_sld E <|
  o_aload 0 <|
  o_iload 3 <|
  o_push (.int 2) <|
  o_iadd <|
  o_sld E <|
  o_callV [8] 3 (wX5_drop E) (x_out Q) <|
  o_icmpeq (bL_law_1064 E Q X18) <|
  o_push (.int 0) <|
  o_ireturn .boolean Q
def bL_law_317 (E : Nat → Value) (Q : Rs → HS → Prop) (X18 : Ct) : Ct :=
  o_aload 1 <|
  o_aload 0 <|
  o_iload 3 <|
  o_push (.int 1) <|
  o_iadd <|
  o_sld E <|
  o_aload 0 <|
  o_iload 3 <|
  o_push (.int 2) <|
  o_iadd <|
  o_sld E <|
  o_aload 0 <|
  o_iload 3 <|
  o_push (.int 3) <|
  o_iadd <|
  o_sld E <|
  o_callV [0] 4 (wX0_weigh E) (x_out Q) <|
  o_aload 2 <|
  o_aload 0 <|
  o_iload 3 <|
  o_push (.int 1) <|
  o_iadd <|
  o_sld E <|
  o_aload 0 <|
  o_iload 3 <|
  o_push (.int 2) <|
  o_iadd <|
  o_sld E <|
  o_aload 0 <|
  o_iload 3 <|
  o_push (.int 3) <|
  o_iadd <|
  o_sld E <|
  o_callV [8] 4 (wX5_weigh E) (x_out Q) <|
  o_icmpeq (bL_law_1064 E Q X18) <|
  o_push (.int 0) <|
  o_ireturn .boolean Q
def bL_law_290 (E : Nat → Value) (Q : Rs → HS → Prop) (X18 : Ct) : Ct :=
  o_push (.int 3) <|
  o_iadd <|
  o_sld E <|
  o_aload 0 <|
  o_iload 3 <|
  o_push (.int 4) <|
  o_iadd <|
  o_sld E <|
  o_aload 0 <|
  o_iload 3 <|
  o_push (.int 5) <|
  o_iadd <|
  o_sld E <|
  o_aload 0 <|
  o_iload 3 <|
  o_push (.int 6) <|
  o_iadd <|
  o_sld E <|
  o_callV [8] 7 (wX5_arc E) (x_out Q) <|
  o_icmpeq (bL_law_1064 E Q X18) <|
  o_push (.int 0) <|
  o_ireturn .boolean Q
def bL_law_242 (E : Nat → Value) (Q : Rs → HS → Prop) (X18 : Ct) : Ct :=
  o_aload 1 <|
  o_aload 0 <|
  o_iload 3 <|
  o_push (.int 1) <|
  o_iadd <|
  o_sld E <|
  o_aload 0 <|
  o_iload 3 <|
  o_push (.int 2) <|
  o_iadd <|
  o_sld E <|
  o_aload 0 <|
  o_iload 3 <|
  o_push (.int 3) <|
  o_iadd <|
  o_sld E <|
  o_aload 0 <|
  o_iload 3 <|
  o_push (.int 4) <|
  o_iadd <|
  o_sld E <|
  o_aload 0 <|
  o_iload 3 <|
  o_push (.int 5) <|
  o_iadd <|
  o_sld E <|
  o_aload 0 <|
  o_iload 3 <|
  o_push (.int 6) <|
  o_iadd <|
  o_sld E <|
  o_callV [0] 7 (wX0_arc E) (x_out Q) <|
  o_aload 2 <|
  o_aload 0 <|
  o_iload 3 <|
  o_push (.int 1) <|
  o_iadd <|
  o_sld E <|
  o_aload 0 <|
  o_iload 3 <|
  o_push (.int 2) <|
  o_iadd <|
  o_sld E <|
  o_aload 0 <|
  o_iload 3 <|
  (bL_law_290 E Q X18)
def bL_law_199 (E : Nat → Value) (Q : Rs → HS → Prop) (X18 : Ct) : Ct :=
  o_aload 1 <|
  o_aload 0 <|
  o_iload 3 <|
  o_push (.int 1) <|
  o_iadd <|
  o_sld E <|
  o_aload 0 <|
  o_iload 3 <|
  o_push (.int 2) <|
  o_iadd <|
  o_sld E <|
  o_aload 0 <|
  o_iload 3 <|
  o_push (.int 3) <|
  o_iadd <|
  o_sld E <|
  o_callV [0] 4 (wX0_end E) (x_out Q) <|
  o_aload 2 <|
  o_aload 0 <|
  o_iload 3 <|
  o_push (.int 1) <|
  o_iadd <|
  o_sld E <|
  o_aload 0 <|
  o_iload 3 <|
  o_push (.int 2) <|
  o_iadd <|
  o_sld E <|
  o_aload 0 <|
  o_iload 3 <|
  o_push (.int 3) <|
  o_iadd <|
  o_sld E <|
  o_callV [8] 4 (wX5_end E) (x_out Q) <|
  o_icmpeq (bL_law_1064 E Q X18) <|
  o_push (.int 0) <|
  o_ireturn .boolean Q
def bL_law_176 (E : Nat → Value) (Q : Rs → HS → Prop) (X18 : Ct) : Ct :=
  o_aload 1 <|
  o_aload 0 <|
  o_iload 3 <|
  o_push (.int 1) <|
  o_iadd <|
  o_sld E <|
  o_callV [0] 2 (wX0_state E) (x_out Q) <|
  o_aload 2 <|
  o_aload 0 <|
  o_iload 3 <|
  o_push (.int 1) <|
  o_iadd <|
  o_sld E <|
  o_callV [8] 2 (wX5_state E) (x_out Q) <|
  o_icmpeq (bL_law_1064 E Q X18) <|
  o_push (.int 0) <|
  o_ireturn .boolean Q
def bL_law_18 (E : Nat → Value) (Q : Rs → HS → Prop) (X18 : Ct) : Ct :=
  o_iload 3 <|
  o_aload 0 <|
  o_slen E <|
  o_push (.int 7) <|
  o_isub <|
  o_icmpgt (bL_law_1070 E Q X18) <|
  o_aload 0 <|
  o_iload 3 <|
  o_sld E <|
  o_push (.int 31) <|
  o_iand <|
  o_sw [(0, (bL_law_176 E Q X18)), (1, (bL_law_199 E Q X18)), (2, (bL_law_242 E Q X18)), (3, (bL_law_317 E Q X18)), (4, (bL_law_360 E Q X18)), (5, (bL_law_393 E Q X18)), (6, (bL_law_416 E Q X18)), (7, (bL_law_459 E Q X18)), (8, (bL_law_502 E Q X18)), (9, (bL_law_525 E Q X18)), (10, (bL_law_548 E Q X18)), (11, (bL_law_561 E Q X18)), (12, (bL_law_574 E Q X18)), (13, (bL_law_587 E Q X18)), (14, (bL_law_610 E Q X18)), (15, (bL_law_633 E Q X18)), (16, (bL_law_656 E Q X18)), (17, (bL_law_679 E Q X18)), (18, (bL_law_712 E Q X18)), (19, (bL_law_735 E Q X18)), (20, (bL_law_748 E Q X18)), (21, (bL_law_761 E Q X18)), (22, (bL_law_794 E Q X18)), (23, (bL_law_817 E Q X18)), (24, (bL_law_840 E Q X18)), (25, (bL_law_905 E Q X18)), (26, (bL_law_928 E Q X18)), (27, (bL_law_941 E Q X18)), (28, (bL_law_982 E Q X18)), (29, (bL_law_1025 E Q X18)), (30, (bL_law_1038 E Q X18)), (31, (bL_law_1051 E Q X18))] (bL_law_1064 E Q X18)
def bL_law_0 (E : Nat → Value) (Q : Rs → HS → Prop) (X18 : Ct) : Ct :=
  o_new 0 10 [.null, .null, .null, .null, .int 0, .int 0, .int 0, .int 0, .null, .null] <|
  o_dup <|
  o_callI 1 (wX0_init E) (x_out Q) <|
  o_astore 1 <|
  o_new 8 37 [.int 0, .int 0, .int 0, .int 0, .int 0, .int 0, .int 0, .null, .null, .null, .null, .null, .null, .null, .null, .null, .null, .int 0, .int 0, .null, .null, .null, .null, .null, .null, .null, .int 0, .int 0, .int 0, .null, .int 0, .null, .null, .int 0, .int 0, .int 0, .int 0] <|
  o_dup <|
  o_callI 1 (wX5_init E) (x_out Q) <|
  o_astore 2 <|
  o_push (.int 0) <|
  o_istore 3 <|
  X18
def wL_law (E : Nat → Value) : Wp := fun av h Q => match av with
  | [a0] => ∀ X18 : Ct, (∀ ls st h, bL_law_18 E Q X18 ls st h → X18 ls st h) → bL_law_0 E Q X18 [a0, jk, jk, jk, jk, jk, jk, jk] [] h
  | _ => False
set_option maxHeartbeats 4000000 in
theorem tL_law_1070 {x : CX} {E : Nat → Value} {Q : Rs → HS → Prop} {X18 : Ct} (EN : EX x E) (G : Gd x cL_law "ChantRulesLaw" yL_law 8 (Option.some Jvm.ClassFile.FieldType.boolean) Q) (hF : x.1.2.2.2.frames = 8192 ∧ x.1.2.2.2.locals = 104096) (hC : x.2.2.2.2.2 = (fun j => j == 4 || j == 6)) (hxt : (∀ z ∈ x.2.2.1.2.1.exceptionTable.toList, False)) (h18 : Snd x 18 X18) : Snd x 1070 (bL_law_1070 E Q X18) := by
  unfold bL_law_1070
  refine s_iconst (by decide) G.b dL_law_1070 ?_
  exact s_ireturn G dL_law_1071
set_option maxHeartbeats 4000000 in
theorem tL_law_1064 {x : CX} {E : Nat → Value} {Q : Rs → HS → Prop} {X18 : Ct} (EN : EX x E) (G : Gd x cL_law "ChantRulesLaw" yL_law 8 (Option.some Jvm.ClassFile.FieldType.boolean) Q) (hF : x.1.2.2.2.frames = 8192 ∧ x.1.2.2.2.locals = 104096) (hC : x.2.2.2.2.2 = (fun j => j == 4 || j == 6)) (hxt : (∀ z ∈ x.2.2.1.2.1.exceptionTable.toList, False)) (h18 : Snd x 18 X18) : Snd x 1064 (bL_law_1064 E Q X18) := by
  unfold bL_law_1064
  refine s_iinc (by decide) G.b (by rw [G.nl]; decide) (fun j hj => by rw [hC, show j = 2 by omega]; rfl) dL_law_1064 ?_
  exact s_goto (tgt := 18) G.b dL_law_1067 (by decide) h18
set_option maxHeartbeats 4000000 in
theorem tL_law_1051 {x : CX} {E : Nat → Value} {Q : Rs → HS → Prop} {X18 : Ct} (EN : EX x E) (G : Gd x cL_law "ChantRulesLaw" yL_law 8 (Option.some Jvm.ClassFile.FieldType.boolean) Q) (hF : x.1.2.2.2.frames = 8192 ∧ x.1.2.2.2.locals = 104096) (hC : x.2.2.2.2.2 = (fun j => j == 4 || j == 6)) (hxt : (∀ z ∈ x.2.2.1.2.1.exceptionTable.toList, False)) (h18 : Snd x 18 X18) : Snd x 1051 (bL_law_1051 E Q X18) := by
  unfold bL_law_1051
  refine s_aload_n rfl G.b dL_law_1051 ?_
  refine s_callV G (mX0_restore EN) q1885 q1886 (sel_cons (r := (RX0, TX0, 10)) (by decide) rfl q1887 (sel_nil)) q76 q1888 nmk_298 (rm_of hF (Nat.le_of_ble_eq_true rfl) (Nat.le_of_ble_eq_true rfl)) dL_law_1052 ?_ (sx_out G (fun z hz => (hxt z hz).elim))
  refine s_aload_n rfl G.b dL_law_1055 ?_
  refine s_callV G (mX5_restore EN) q2334 q2335 (sel_cons (r := (RX5, TX5, 37)) (by decide) rfl q2336 (sel_nil)) q90 q2337 nmk_299 (rm_of hF (Nat.le_of_ble_eq_true rfl) (Nat.le_of_ble_eq_true rfl)) dL_law_1056 ?_ (sx_out G (fun z hz => (hxt z hz).elim))
  refine s_icmpeq (tgt := 1064) G.b dL_law_1059 (by decide) (tL_law_1064 EN G hF hC hxt h18) ?_
  refine s_iconst (by decide) G.b dL_law_1062 ?_
  exact s_ireturn G dL_law_1063
set_option maxHeartbeats 4000000 in
theorem tL_law_1038 {x : CX} {E : Nat → Value} {Q : Rs → HS → Prop} {X18 : Ct} (EN : EX x E) (G : Gd x cL_law "ChantRulesLaw" yL_law 8 (Option.some Jvm.ClassFile.FieldType.boolean) Q) (hF : x.1.2.2.2.frames = 8192 ∧ x.1.2.2.2.locals = 104096) (hC : x.2.2.2.2.2 = (fun j => j == 4 || j == 6)) (hxt : (∀ z ∈ x.2.2.1.2.1.exceptionTable.toList, False)) (h18 : Snd x 18 X18) : Snd x 1038 (bL_law_1038 E Q X18) := by
  unfold bL_law_1038
  refine s_aload_n rfl G.b dL_law_1038 ?_
  refine s_callV G (mX0_save EN) q1881 q1882 (sel_cons (r := (RX0, TX0, 10)) (by decide) rfl q1883 (sel_nil)) q76 q1884 nmk_300 (rm_of hF (Nat.le_of_ble_eq_true rfl) (Nat.le_of_ble_eq_true rfl)) dL_law_1039 ?_ (sx_out G (fun z hz => (hxt z hz).elim))
  refine s_aload_n rfl G.b dL_law_1042 ?_
  refine s_callV G (mX5_save EN) q2330 q2331 (sel_cons (r := (RX5, TX5, 37)) (by decide) rfl q2332 (sel_nil)) q90 q2333 nmk_301 (rm_of hF (Nat.le_of_ble_eq_true rfl) (Nat.le_of_ble_eq_true rfl)) dL_law_1043 ?_ (sx_out G (fun z hz => (hxt z hz).elim))
  refine s_icmpeq (tgt := 1064) G.b dL_law_1046 (by decide) (tL_law_1064 EN G hF hC hxt h18) ?_
  refine s_iconst (by decide) G.b dL_law_1049 ?_
  exact s_ireturn G dL_law_1050
set_option maxHeartbeats 4000000 in
theorem tL_law_1025 {x : CX} {E : Nat → Value} {Q : Rs → HS → Prop} {X18 : Ct} (EN : EX x E) (G : Gd x cL_law "ChantRulesLaw" yL_law 8 (Option.some Jvm.ClassFile.FieldType.boolean) Q) (hF : x.1.2.2.2.frames = 8192 ∧ x.1.2.2.2.locals = 104096) (hC : x.2.2.2.2.2 = (fun j => j == 4 || j == 6)) (hxt : (∀ z ∈ x.2.2.1.2.1.exceptionTable.toList, False)) (h18 : Snd x 18 X18) : Snd x 1025 (bL_law_1025 E Q X18) := by
  unfold bL_law_1025
  refine s_aload_n rfl G.b dL_law_1025 ?_
  refine s_callV G (mX0_undo EN) q1862 q1863 (sel_cons (r := (RX0, TX0, 10)) (by decide) rfl q1864 (sel_nil)) q76 q1865 nmk_302 (rm_of hF (Nat.le_of_ble_eq_true rfl) (Nat.le_of_ble_eq_true rfl)) dL_law_1026 ?_ (sx_out G (fun z hz => (hxt z hz).elim))
  refine s_aload_n rfl G.b dL_law_1029 ?_
  refine s_callV G (mX5_undo EN) q2326 q2327 (sel_cons (r := (RX5, TX5, 37)) (by decide) rfl q2328 (sel_nil)) q90 q2329 nmk_303 (rm_of hF (Nat.le_of_ble_eq_true rfl) (Nat.le_of_ble_eq_true rfl)) dL_law_1030 ?_ (sx_out G (fun z hz => (hxt z hz).elim))
  refine s_icmpeq (tgt := 1064) G.b dL_law_1033 (by decide) (tL_law_1064 EN G hF hC hxt h18) ?_
  refine s_iconst (by decide) G.b dL_law_1036 ?_
  exact s_ireturn G dL_law_1037
set_option maxHeartbeats 4000000 in
theorem tL_law_1022 {x : CX} {E : Nat → Value} {Q : Rs → HS → Prop} {X18 : Ct} (EN : EX x E) (G : Gd x cL_law "ChantRulesLaw" yL_law 8 (Option.some Jvm.ClassFile.FieldType.boolean) Q) (hF : x.1.2.2.2.frames = 8192 ∧ x.1.2.2.2.locals = 104096) (hC : x.2.2.2.2.2 = (fun j => j == 4 || j == 6)) (hxt : (∀ z ∈ x.2.2.1.2.1.exceptionTable.toList, False)) (h18 : Snd x 18 X18) : Snd x 1022 (bL_law_1022 E Q X18) := by
  unfold bL_law_1022
  exact s_goto (tgt := 1064) G.b dL_law_1022 (by decide) (tL_law_1064 EN G hF hC hxt h18)
set_option maxHeartbeats 4000000 in
theorem tL_law_1020 {x : CX} {E : Nat → Value} {Q : Rs → HS → Prop} {X18 : Ct} (EN : EX x E) (G : Gd x cL_law "ChantRulesLaw" yL_law 8 (Option.some Jvm.ClassFile.FieldType.boolean) Q) (hF : x.1.2.2.2.frames = 8192 ∧ x.1.2.2.2.locals = 104096) (hC : x.2.2.2.2.2 = (fun j => j == 4 || j == 6)) (hxt : (∀ z ∈ x.2.2.1.2.1.exceptionTable.toList, False)) (h18 : Snd x 18 X18) : Snd x 1020 (bL_law_1020 E Q X18) := by
  unfold bL_law_1020
  refine s_iconst (by decide) G.b dL_law_1020 ?_
  exact s_ireturn G dL_law_1021
set_option maxHeartbeats 4000000 in
theorem tL_law_982 {x : CX} {E : Nat → Value} {Q : Rs → HS → Prop} {X18 : Ct} (EN : EX x E) (G : Gd x cL_law "ChantRulesLaw" yL_law 8 (Option.some Jvm.ClassFile.FieldType.boolean) Q) (hF : x.1.2.2.2.frames = 8192 ∧ x.1.2.2.2.locals = 104096) (hC : x.2.2.2.2.2 = (fun j => j == 4 || j == 6)) (hxt : (∀ z ∈ x.2.2.1.2.1.exceptionTable.toList, False)) (h18 : Snd x 18 X18) : Snd x 982 (bL_law_982 E Q X18) := by
  unfold bL_law_982
  refine s_aload_n rfl G.b dL_law_982 ?_
  refine s_callV G (mX0_usefulShare EN) q1855 q1856 (sel_cons (r := (RX0, TX0, 10)) (by decide) rfl q1857 (sel_nil)) q76 q1858 nmk_304 (rm_of hF (Nat.le_of_ble_eq_true rfl) (Nat.le_of_ble_eq_true rfl)) dL_law_983 ?_ (sx_out G (fun z hz => (hxt z hz).elim))
  refine s_f2d G.b dL_law_986 ?_
  refine s_dstore G.b (by rw [G.nl]; decide) (by rw [hC]; rfl) (fun j hj => by rw [hC, show j = 3 by omega]; rfl) dL_law_987 ?_
  refine s_aload_n rfl G.b dL_law_989 ?_
  refine s_callV G (mX5_usefulShare EN) q2322 q2323 (sel_cons (r := (RX5, TX5, 37)) (by decide) rfl q2324 (sel_nil)) q90 q2325 nmk_305 (rm_of hF (Nat.le_of_ble_eq_true rfl) (Nat.le_of_ble_eq_true rfl)) dL_law_990 ?_ (sx_out G (fun z hz => (hxt z hz).elim))
  refine s_f2d G.b dL_law_993 ?_
  refine s_dstore G.b (by rw [G.nl]; decide) (by rw [hC]; rfl) (fun j hj => by rw [hC, show j = 5 by omega]; rfl) dL_law_994 ?_
  refine s_dload G.b dL_law_996 ?_
  refine s_dload G.b dL_law_998 ?_
  refine s_dcmp .l G.b dL_law_1000 ?_
  refine s_ifeq (tgt := 1022) G.b dL_law_1001 (by decide) (tL_law_1022 EN G hF hC hxt h18) ?_
  refine s_dload G.b dL_law_1004 ?_
  refine s_dload G.b dL_law_1006 ?_
  refine s_dcmp .l G.b dL_law_1008 ?_
  refine s_ifeq (tgt := 1020) G.b dL_law_1009 (by decide) (tL_law_1020 EN G hF hC hxt h18) ?_
  refine s_dload G.b dL_law_1012 ?_
  refine s_dload G.b dL_law_1014 ?_
  refine s_dcmp .l G.b dL_law_1016 ?_
  refine s_ifne (tgt := 1022) G.b dL_law_1017 (by decide) (tL_law_1022 EN G hF hC hxt h18) ?_
  exact (tL_law_1020 EN G hF hC hxt h18)
set_option maxHeartbeats 4000000 in
theorem tL_law_979 {x : CX} {E : Nat → Value} {Q : Rs → HS → Prop} {X18 : Ct} (EN : EX x E) (G : Gd x cL_law "ChantRulesLaw" yL_law 8 (Option.some Jvm.ClassFile.FieldType.boolean) Q) (hF : x.1.2.2.2.frames = 8192 ∧ x.1.2.2.2.locals = 104096) (hC : x.2.2.2.2.2 = (fun j => j == 4 || j == 6)) (hxt : (∀ z ∈ x.2.2.1.2.1.exceptionTable.toList, False)) (h18 : Snd x 18 X18) : Snd x 979 (bL_law_979 E Q X18) := by
  unfold bL_law_979
  exact s_goto (tgt := 1064) G.b dL_law_979 (by decide) (tL_law_1064 EN G hF hC hxt h18)
set_option maxHeartbeats 4000000 in
theorem tL_law_977 {x : CX} {E : Nat → Value} {Q : Rs → HS → Prop} {X18 : Ct} (EN : EX x E) (G : Gd x cL_law "ChantRulesLaw" yL_law 8 (Option.some Jvm.ClassFile.FieldType.boolean) Q) (hF : x.1.2.2.2.frames = 8192 ∧ x.1.2.2.2.locals = 104096) (hC : x.2.2.2.2.2 = (fun j => j == 4 || j == 6)) (hxt : (∀ z ∈ x.2.2.1.2.1.exceptionTable.toList, False)) (h18 : Snd x 18 X18) : Snd x 977 (bL_law_977 E Q X18) := by
  unfold bL_law_977
  refine s_iconst (by decide) G.b dL_law_977 ?_
  exact s_ireturn G dL_law_978
set_option maxHeartbeats 4000000 in
theorem tL_law_941 {x : CX} {E : Nat → Value} {Q : Rs → HS → Prop} {X18 : Ct} (EN : EX x E) (G : Gd x cL_law "ChantRulesLaw" yL_law 8 (Option.some Jvm.ClassFile.FieldType.boolean) Q) (hF : x.1.2.2.2.frames = 8192 ∧ x.1.2.2.2.locals = 104096) (hC : x.2.2.2.2.2 = (fun j => j == 4 || j == 6)) (hxt : (∀ z ∈ x.2.2.1.2.1.exceptionTable.toList, False)) (h18 : Snd x 18 X18) : Snd x 941 (bL_law_941 E Q X18) := by
  unfold bL_law_941
  refine s_aload_n rfl G.b dL_law_941 ?_
  refine s_callV G (mX0_meanWeight EN) q1850 q1851 (sel_cons (r := (RX0, TX0, 10)) (by decide) rfl q1852 (sel_nil)) q76 q1853 nmk_306 (rm_of hF (Nat.le_of_ble_eq_true rfl) (Nat.le_of_ble_eq_true rfl)) dL_law_942 ?_ (sx_out G (fun z hz => (hxt z hz).elim))
  refine s_dstore G.b (by rw [G.nl]; decide) (by rw [hC]; rfl) (fun j hj => by rw [hC, show j = 3 by omega]; rfl) dL_law_945 ?_
  refine s_aload_n rfl G.b dL_law_947 ?_
  refine s_callV G (mX5_meanWeight EN) q2318 q2319 (sel_cons (r := (RX5, TX5, 37)) (by decide) rfl q2320 (sel_nil)) q90 q2321 nmk_307 (rm_of hF (Nat.le_of_ble_eq_true rfl) (Nat.le_of_ble_eq_true rfl)) dL_law_948 ?_ (sx_out G (fun z hz => (hxt z hz).elim))
  refine s_dstore G.b (by rw [G.nl]; decide) (by rw [hC]; rfl) (fun j hj => by rw [hC, show j = 5 by omega]; rfl) dL_law_951 ?_
  refine s_dload G.b dL_law_953 ?_
  refine s_dload G.b dL_law_955 ?_
  refine s_dcmp .l G.b dL_law_957 ?_
  refine s_ifeq (tgt := 979) G.b dL_law_958 (by decide) (tL_law_979 EN G hF hC hxt h18) ?_
  refine s_dload G.b dL_law_961 ?_
  refine s_dload G.b dL_law_963 ?_
  refine s_dcmp .l G.b dL_law_965 ?_
  refine s_ifeq (tgt := 977) G.b dL_law_966 (by decide) (tL_law_977 EN G hF hC hxt h18) ?_
  refine s_dload G.b dL_law_969 ?_
  refine s_dload G.b dL_law_971 ?_
  refine s_dcmp .l G.b dL_law_973 ?_
  refine s_ifne (tgt := 979) G.b dL_law_974 (by decide) (tL_law_979 EN G hF hC hxt h18) ?_
  exact (tL_law_977 EN G hF hC hxt h18)
set_option maxHeartbeats 4000000 in
theorem tL_law_928 {x : CX} {E : Nat → Value} {Q : Rs → HS → Prop} {X18 : Ct} (EN : EX x E) (G : Gd x cL_law "ChantRulesLaw" yL_law 8 (Option.some Jvm.ClassFile.FieldType.boolean) Q) (hF : x.1.2.2.2.frames = 8192 ∧ x.1.2.2.2.locals = 104096) (hC : x.2.2.2.2.2 = (fun j => j == 4 || j == 6)) (hxt : (∀ z ∈ x.2.2.1.2.1.exceptionTable.toList, False)) (h18 : Snd x 18 X18) : Snd x 928 (bL_law_928 E Q X18) := by
  unfold bL_law_928
  refine s_aload_n rfl G.b dL_law_928 ?_
  refine s_callV G (mX0_isBalanced EN) q1825 q1826 (sel_cons (r := (RX0, TX0, 10)) (by decide) rfl q1827 (sel_nil)) q76 q1828 nmk_308 (rm_of hF (Nat.le_of_ble_eq_true rfl) (Nat.le_of_ble_eq_true rfl)) dL_law_929 ?_ (sx_out G (fun z hz => (hxt z hz).elim))
  refine s_aload_n rfl G.b dL_law_932 ?_
  refine s_callV G (mX5_isBalanced EN) q2314 q2315 (sel_cons (r := (RX5, TX5, 37)) (by decide) rfl q2316 (sel_nil)) q90 q2317 nmk_309 (rm_of hF (Nat.le_of_ble_eq_true rfl) (Nat.le_of_ble_eq_true rfl)) dL_law_933 ?_ (sx_out G (fun z hz => (hxt z hz).elim))
  refine s_icmpeq (tgt := 1064) G.b dL_law_936 (by decide) (tL_law_1064 EN G hF hC hxt h18) ?_
  refine s_iconst (by decide) G.b dL_law_939 ?_
  exact s_ireturn G dL_law_940
set_option maxHeartbeats 4000000 in
theorem tL_law_905 {x : CX} {E : Nat → Value} {Q : Rs → HS → Prop} {X18 : Ct} (EN : EX x E) (G : Gd x cL_law "ChantRulesLaw" yL_law 8 (Option.some Jvm.ClassFile.FieldType.boolean) Q) (hF : x.1.2.2.2.frames = 8192 ∧ x.1.2.2.2.locals = 104096) (hC : x.2.2.2.2.2 = (fun j => j == 4 || j == 6)) (hxt : (∀ z ∈ x.2.2.1.2.1.exceptionTable.toList, False)) (h18 : Snd x 18 X18) : Snd x 905 (bL_law_905 E Q X18) := by
  unfold bL_law_905
  refine s_aload_n rfl G.b dL_law_905 ?_
  refine s_aload_n rfl G.b dL_law_906 ?_
  refine s_iload_n rfl G.b dL_law_907 ?_
  refine s_iconst (by decide) G.b dL_law_908 ?_
  refine s_iadd G.b dL_law_909 ?_
  refine s_sld EN G dL_law_910 ?_
  refine s_callV G (mX0_account EN) q1805 q1806 (sel_cons (r := (RX0, TX0, 10)) (by decide) rfl q1807 (sel_nil)) q76 q1808 nmk_310 (rm_of hF (Nat.le_of_ble_eq_true rfl) (Nat.le_of_ble_eq_true rfl)) dL_law_911 ?_ (sx_out G (fun z hz => (hxt z hz).elim))
  refine s_aload_n rfl G.b dL_law_914 ?_
  refine s_aload_n rfl G.b dL_law_915 ?_
  refine s_iload_n rfl G.b dL_law_916 ?_
  refine s_iconst (by decide) G.b dL_law_917 ?_
  refine s_iadd G.b dL_law_918 ?_
  refine s_sld EN G dL_law_919 ?_
  refine s_callV G (mX5_account EN) q2306 q2307 (sel_cons (r := (RX5, TX5, 37)) (by decide) rfl q2308 (sel_nil)) q90 q2309 nmk_311 (rm_of hF (Nat.le_of_ble_eq_true rfl) (Nat.le_of_ble_eq_true rfl)) dL_law_920 ?_ (sx_out G (fun z hz => (hxt z hz).elim))
  refine s_icmpeq (tgt := 1064) G.b dL_law_923 (by decide) (tL_law_1064 EN G hF hC hxt h18) ?_
  refine s_iconst (by decide) G.b dL_law_926 ?_
  exact s_ireturn G dL_law_927
set_option maxHeartbeats 4000000 in
theorem tL_law_897 {x : CX} {E : Nat → Value} {Q : Rs → HS → Prop} {X18 : Ct} (EN : EX x E) (G : Gd x cL_law "ChantRulesLaw" yL_law 8 (Option.some Jvm.ClassFile.FieldType.boolean) Q) (hF : x.1.2.2.2.frames = 8192 ∧ x.1.2.2.2.locals = 104096) (hC : x.2.2.2.2.2 = (fun j => j == 4 || j == 6)) (hxt : (∀ z ∈ x.2.2.1.2.1.exceptionTable.toList, False)) (h18 : Snd x 18 X18) : Snd x 897 (bL_law_897 E Q X18) := by
  unfold bL_law_897
  refine s_callV G (mX5_reason EN) q2302 q2303 (sel_cons (r := (RX5, TX5, 37)) (by decide) rfl q2304 (sel_nil)) q90 q2305 nmk_312 (rm_of hF (Nat.le_of_ble_eq_true rfl) (Nat.le_of_ble_eq_true rfl)) dL_law_897 ?_ (sx_out G (fun z hz => (hxt z hz).elim))
  refine s_icmpeq (tgt := 1064) G.b dL_law_900 (by decide) (tL_law_1064 EN G hF hC hxt h18) ?_
  refine s_iconst (by decide) G.b dL_law_903 ?_
  exact s_ireturn G dL_law_904
set_option maxHeartbeats 4000000 in
theorem tL_law_896 {x : CX} {E : Nat → Value} {Q : Rs → HS → Prop} {X18 : Ct} (EN : EX x E) (G : Gd x cL_law "ChantRulesLaw" yL_law 8 (Option.some Jvm.ClassFile.FieldType.boolean) Q) (hF : x.1.2.2.2.frames = 8192 ∧ x.1.2.2.2.locals = 104096) (hC : x.2.2.2.2.2 = (fun j => j == 4 || j == 6)) (hxt : (∀ z ∈ x.2.2.1.2.1.exceptionTable.toList, False)) (h18 : Snd x 18 X18) : Snd x 896 (bL_law_896 E Q X18) := by
  unfold bL_law_896
  refine s_iconst (by decide) G.b dL_law_896 ?_
  exact (tL_law_897 EN G hF hC hxt h18)
set_option maxHeartbeats 4000000 in
theorem tL_law_884 {x : CX} {E : Nat → Value} {Q : Rs → HS → Prop} {X18 : Ct} (EN : EX x E) (G : Gd x cL_law "ChantRulesLaw" yL_law 8 (Option.some Jvm.ClassFile.FieldType.boolean) Q) (hF : x.1.2.2.2.frames = 8192 ∧ x.1.2.2.2.locals = 104096) (hC : x.2.2.2.2.2 = (fun j => j == 4 || j == 6)) (hxt : (∀ z ∈ x.2.2.1.2.1.exceptionTable.toList, False)) (h18 : Snd x 18 X18) : Snd x 884 (bL_law_884 E Q X18) := by
  unfold bL_law_884
  refine s_aload_n rfl G.b dL_law_884 ?_
  refine s_iload_n rfl G.b dL_law_885 ?_
  refine s_iconst (by decide) G.b dL_law_886 ?_
  refine s_iadd G.b dL_law_887 ?_
  refine s_sld EN G dL_law_888 ?_
  refine s_ifeq (tgt := 896) G.b dL_law_889 (by decide) (tL_law_896 EN G hF hC hxt h18) ?_
  refine s_iconst (by decide) G.b dL_law_892 ?_
  exact s_goto (tgt := 897) G.b dL_law_893 (by decide) (tL_law_897 EN G hF hC hxt h18)
set_option maxHeartbeats 4000000 in
theorem tL_law_883 {x : CX} {E : Nat → Value} {Q : Rs → HS → Prop} {X18 : Ct} (EN : EX x E) (G : Gd x cL_law "ChantRulesLaw" yL_law 8 (Option.some Jvm.ClassFile.FieldType.boolean) Q) (hF : x.1.2.2.2.frames = 8192 ∧ x.1.2.2.2.locals = 104096) (hC : x.2.2.2.2.2 = (fun j => j == 4 || j == 6)) (hxt : (∀ z ∈ x.2.2.1.2.1.exceptionTable.toList, False)) (h18 : Snd x 18 X18) : Snd x 883 (bL_law_883 E Q X18) := by
  unfold bL_law_883
  refine s_iconst (by decide) G.b dL_law_883 ?_
  exact (tL_law_884 EN G hF hC hxt h18)
set_option maxHeartbeats 4000000 in
theorem tL_law_867 {x : CX} {E : Nat → Value} {Q : Rs → HS → Prop} {X18 : Ct} (EN : EX x E) (G : Gd x cL_law "ChantRulesLaw" yL_law 8 (Option.some Jvm.ClassFile.FieldType.boolean) Q) (hF : x.1.2.2.2.frames = 8192 ∧ x.1.2.2.2.locals = 104096) (hC : x.2.2.2.2.2 = (fun j => j == 4 || j == 6)) (hxt : (∀ z ∈ x.2.2.1.2.1.exceptionTable.toList, False)) (h18 : Snd x 18 X18) : Snd x 867 (bL_law_867 E Q X18) := by
  unfold bL_law_867
  refine s_callV G (mX0_reason EN) q1801 q1802 (sel_cons (r := (RX0, TX0, 10)) (by decide) rfl q1803 (sel_nil)) q76 q1804 nmk_313 (rm_of hF (Nat.le_of_ble_eq_true rfl) (Nat.le_of_ble_eq_true rfl)) dL_law_867 ?_ (sx_out G (fun z hz => (hxt z hz).elim))
  refine s_aload_n rfl G.b dL_law_870 ?_
  refine s_aload_n rfl G.b dL_law_871 ?_
  refine s_iload_n rfl G.b dL_law_872 ?_
  refine s_iconst (by decide) G.b dL_law_873 ?_
  refine s_iadd G.b dL_law_874 ?_
  refine s_sld EN G dL_law_875 ?_
  refine s_ifeq (tgt := 883) G.b dL_law_876 (by decide) (tL_law_883 EN G hF hC hxt h18) ?_
  refine s_iconst (by decide) G.b dL_law_879 ?_
  exact s_goto (tgt := 884) G.b dL_law_880 (by decide) (tL_law_884 EN G hF hC hxt h18)
set_option maxHeartbeats 4000000 in
theorem tL_law_866 {x : CX} {E : Nat → Value} {Q : Rs → HS → Prop} {X18 : Ct} (EN : EX x E) (G : Gd x cL_law "ChantRulesLaw" yL_law 8 (Option.some Jvm.ClassFile.FieldType.boolean) Q) (hF : x.1.2.2.2.frames = 8192 ∧ x.1.2.2.2.locals = 104096) (hC : x.2.2.2.2.2 = (fun j => j == 4 || j == 6)) (hxt : (∀ z ∈ x.2.2.1.2.1.exceptionTable.toList, False)) (h18 : Snd x 18 X18) : Snd x 866 (bL_law_866 E Q X18) := by
  unfold bL_law_866
  refine s_iconst (by decide) G.b dL_law_866 ?_
  exact (tL_law_867 EN G hF hC hxt h18)
set_option maxHeartbeats 4000000 in
theorem tL_law_854 {x : CX} {E : Nat → Value} {Q : Rs → HS → Prop} {X18 : Ct} (EN : EX x E) (G : Gd x cL_law "ChantRulesLaw" yL_law 8 (Option.some Jvm.ClassFile.FieldType.boolean) Q) (hF : x.1.2.2.2.frames = 8192 ∧ x.1.2.2.2.locals = 104096) (hC : x.2.2.2.2.2 = (fun j => j == 4 || j == 6)) (hxt : (∀ z ∈ x.2.2.1.2.1.exceptionTable.toList, False)) (h18 : Snd x 18 X18) : Snd x 854 (bL_law_854 E Q X18) := by
  unfold bL_law_854
  refine s_aload_n rfl G.b dL_law_854 ?_
  refine s_iload_n rfl G.b dL_law_855 ?_
  refine s_iconst (by decide) G.b dL_law_856 ?_
  refine s_iadd G.b dL_law_857 ?_
  refine s_sld EN G dL_law_858 ?_
  refine s_ifeq (tgt := 866) G.b dL_law_859 (by decide) (tL_law_866 EN G hF hC hxt h18) ?_
  refine s_iconst (by decide) G.b dL_law_862 ?_
  exact s_goto (tgt := 867) G.b dL_law_863 (by decide) (tL_law_867 EN G hF hC hxt h18)
set_option maxHeartbeats 4000000 in
theorem tL_law_853 {x : CX} {E : Nat → Value} {Q : Rs → HS → Prop} {X18 : Ct} (EN : EX x E) (G : Gd x cL_law "ChantRulesLaw" yL_law 8 (Option.some Jvm.ClassFile.FieldType.boolean) Q) (hF : x.1.2.2.2.frames = 8192 ∧ x.1.2.2.2.locals = 104096) (hC : x.2.2.2.2.2 = (fun j => j == 4 || j == 6)) (hxt : (∀ z ∈ x.2.2.1.2.1.exceptionTable.toList, False)) (h18 : Snd x 18 X18) : Snd x 853 (bL_law_853 E Q X18) := by
  unfold bL_law_853
  refine s_iconst (by decide) G.b dL_law_853 ?_
  exact (tL_law_854 EN G hF hC hxt h18)
set_option maxHeartbeats 4000000 in
theorem tL_law_840 {x : CX} {E : Nat → Value} {Q : Rs → HS → Prop} {X18 : Ct} (EN : EX x E) (G : Gd x cL_law "ChantRulesLaw" yL_law 8 (Option.some Jvm.ClassFile.FieldType.boolean) Q) (hF : x.1.2.2.2.frames = 8192 ∧ x.1.2.2.2.locals = 104096) (hC : x.2.2.2.2.2 = (fun j => j == 4 || j == 6)) (hxt : (∀ z ∈ x.2.2.1.2.1.exceptionTable.toList, False)) (h18 : Snd x 18 X18) : Snd x 840 (bL_law_840 E Q X18) := by
  unfold bL_law_840
  refine s_aload_n rfl G.b dL_law_840 ?_
  refine s_aload_n rfl G.b dL_law_841 ?_
  refine s_iload_n rfl G.b dL_law_842 ?_
  refine s_iconst (by decide) G.b dL_law_843 ?_
  refine s_iadd G.b dL_law_844 ?_
  refine s_sld EN G dL_law_845 ?_
  refine s_ifeq (tgt := 853) G.b dL_law_846 (by decide) (tL_law_853 EN G hF hC hxt h18) ?_
  refine s_iconst (by decide) G.b dL_law_849 ?_
  exact s_goto (tgt := 854) G.b dL_law_850 (by decide) (tL_law_854 EN G hF hC hxt h18)
set_option maxHeartbeats 4000000 in
theorem tL_law_817 {x : CX} {E : Nat → Value} {Q : Rs → HS → Prop} {X18 : Ct} (EN : EX x E) (G : Gd x cL_law "ChantRulesLaw" yL_law 8 (Option.some Jvm.ClassFile.FieldType.boolean) Q) (hF : x.1.2.2.2.frames = 8192 ∧ x.1.2.2.2.locals = 104096) (hC : x.2.2.2.2.2 = (fun j => j == 4 || j == 6)) (hxt : (∀ z ∈ x.2.2.1.2.1.exceptionTable.toList, False)) (h18 : Snd x 18 X18) : Snd x 817 (bL_law_817 E Q X18) := by
  unfold bL_law_817
  refine s_aload_n rfl G.b dL_law_817 ?_
  refine s_aload_n rfl G.b dL_law_818 ?_
  refine s_iload_n rfl G.b dL_law_819 ?_
  refine s_iconst (by decide) G.b dL_law_820 ?_
  refine s_iadd G.b dL_law_821 ?_
  refine s_sld EN G dL_law_822 ?_
  refine s_callV G (mX0_character EN) q1796 q1797 (sel_cons (r := (RX0, TX0, 10)) (by decide) rfl q1798 (sel_nil)) q76 q1799 nmk_314 (rm_of hF (Nat.le_of_ble_eq_true rfl) (Nat.le_of_ble_eq_true rfl)) dL_law_823 ?_ (sx_out G (fun z hz => (hxt z hz).elim))
  refine s_aload_n rfl G.b dL_law_826 ?_
  refine s_aload_n rfl G.b dL_law_827 ?_
  refine s_iload_n rfl G.b dL_law_828 ?_
  refine s_iconst (by decide) G.b dL_law_829 ?_
  refine s_iadd G.b dL_law_830 ?_
  refine s_sld EN G dL_law_831 ?_
  refine s_callV G (mX5_character EN) q2298 q2299 (sel_cons (r := (RX5, TX5, 37)) (by decide) rfl q2300 (sel_nil)) q90 q2301 nmk_315 (rm_of hF (Nat.le_of_ble_eq_true rfl) (Nat.le_of_ble_eq_true rfl)) dL_law_832 ?_ (sx_out G (fun z hz => (hxt z hz).elim))
  refine s_icmpeq (tgt := 1064) G.b dL_law_835 (by decide) (tL_law_1064 EN G hF hC hxt h18) ?_
  refine s_iconst (by decide) G.b dL_law_838 ?_
  exact s_ireturn G dL_law_839
set_option maxHeartbeats 4000000 in
theorem tL_law_794 {x : CX} {E : Nat → Value} {Q : Rs → HS → Prop} {X18 : Ct} (EN : EX x E) (G : Gd x cL_law "ChantRulesLaw" yL_law 8 (Option.some Jvm.ClassFile.FieldType.boolean) Q) (hF : x.1.2.2.2.frames = 8192 ∧ x.1.2.2.2.locals = 104096) (hC : x.2.2.2.2.2 = (fun j => j == 4 || j == 6)) (hxt : (∀ z ∈ x.2.2.1.2.1.exceptionTable.toList, False)) (h18 : Snd x 18 X18) : Snd x 794 (bL_law_794 E Q X18) := by
  unfold bL_law_794
  refine s_aload_n rfl G.b dL_law_794 ?_
  refine s_aload_n rfl G.b dL_law_795 ?_
  refine s_iload_n rfl G.b dL_law_796 ?_
  refine s_iconst (by decide) G.b dL_law_797 ?_
  refine s_iadd G.b dL_law_798 ?_
  refine s_sld EN G dL_law_799 ?_
  refine s_callV G (mX0_tellStates EN) q1750 q1751 (sel_cons (r := (RX0, TX0, 10)) (by decide) rfl q1752 (sel_nil)) q76 q1753 nmk_316 (rm_of hF (Nat.le_of_ble_eq_true rfl) (Nat.le_of_ble_eq_true rfl)) dL_law_800 ?_ (sx_out G (fun z hz => (hxt z hz).elim))
  refine s_aload_n rfl G.b dL_law_803 ?_
  refine s_aload_n rfl G.b dL_law_804 ?_
  refine s_iload_n rfl G.b dL_law_805 ?_
  refine s_iconst (by decide) G.b dL_law_806 ?_
  refine s_iadd G.b dL_law_807 ?_
  refine s_sld EN G dL_law_808 ?_
  refine s_callV G (mX5_tellStates EN) q2294 q2295 (sel_cons (r := (RX5, TX5, 37)) (by decide) rfl q2296 (sel_nil)) q90 q2297 nmk_317 (rm_of hF (Nat.le_of_ble_eq_true rfl) (Nat.le_of_ble_eq_true rfl)) dL_law_809 ?_ (sx_out G (fun z hz => (hxt z hz).elim))
  refine s_icmpeq (tgt := 1064) G.b dL_law_812 (by decide) (tL_law_1064 EN G hF hC hxt h18) ?_
  refine s_iconst (by decide) G.b dL_law_815 ?_
  exact s_ireturn G dL_law_816
set_option maxHeartbeats 4000000 in
theorem tL_law_761 {x : CX} {E : Nat → Value} {Q : Rs → HS → Prop} {X18 : Ct} (EN : EX x E) (G : Gd x cL_law "ChantRulesLaw" yL_law 8 (Option.some Jvm.ClassFile.FieldType.boolean) Q) (hF : x.1.2.2.2.frames = 8192 ∧ x.1.2.2.2.locals = 104096) (hC : x.2.2.2.2.2 = (fun j => j == 4 || j == 6)) (hxt : (∀ z ∈ x.2.2.1.2.1.exceptionTable.toList, False)) (h18 : Snd x 18 X18) : Snd x 761 (bL_law_761 E Q X18) := by
  unfold bL_law_761
  refine s_aload_n rfl G.b dL_law_761 ?_
  refine s_aload_n rfl G.b dL_law_762 ?_
  refine s_iload_n rfl G.b dL_law_763 ?_
  refine s_iconst (by decide) G.b dL_law_764 ?_
  refine s_iadd G.b dL_law_765 ?_
  refine s_sld EN G dL_law_766 ?_
  refine s_aload_n rfl G.b dL_law_767 ?_
  refine s_iload_n rfl G.b dL_law_768 ?_
  refine s_iconst (by decide) G.b dL_law_769 ?_
  refine s_iadd G.b dL_law_770 ?_
  refine s_sld EN G dL_law_771 ?_
  refine s_callV G (mX0_tell EN) q1714 q1715 (sel_cons (r := (RX0, TX0, 10)) (by decide) rfl q1716 (sel_nil)) q76 q1717 nmk_318 (rm_of hF (Nat.le_of_ble_eq_true rfl) (Nat.le_of_ble_eq_true rfl)) dL_law_772 ?_ (sx_out G (fun z hz => (hxt z hz).elim))
  refine s_aload_n rfl G.b dL_law_775 ?_
  refine s_aload_n rfl G.b dL_law_776 ?_
  refine s_iload_n rfl G.b dL_law_777 ?_
  refine s_iconst (by decide) G.b dL_law_778 ?_
  refine s_iadd G.b dL_law_779 ?_
  refine s_sld EN G dL_law_780 ?_
  refine s_aload_n rfl G.b dL_law_781 ?_
  refine s_iload_n rfl G.b dL_law_782 ?_
  refine s_iconst (by decide) G.b dL_law_783 ?_
  refine s_iadd G.b dL_law_784 ?_
  refine s_sld EN G dL_law_785 ?_
  refine s_callV G (mX5_tell EN) q2287 q2288 (sel_cons (r := (RX5, TX5, 37)) (by decide) rfl q2289 (sel_nil)) q90 q2290 nmk_319 (rm_of hF (Nat.le_of_ble_eq_true rfl) (Nat.le_of_ble_eq_true rfl)) dL_law_786 ?_ (sx_out G (fun z hz => (hxt z hz).elim))
  refine s_icmpeq (tgt := 1064) G.b dL_law_789 (by decide) (tL_law_1064 EN G hF hC hxt h18) ?_
  refine s_iconst (by decide) G.b dL_law_792 ?_
  exact s_ireturn G dL_law_793
set_option maxHeartbeats 4000000 in
theorem tL_law_748 {x : CX} {E : Nat → Value} {Q : Rs → HS → Prop} {X18 : Ct} (EN : EX x E) (G : Gd x cL_law "ChantRulesLaw" yL_law 8 (Option.some Jvm.ClassFile.FieldType.boolean) Q) (hF : x.1.2.2.2.frames = 8192 ∧ x.1.2.2.2.locals = 104096) (hC : x.2.2.2.2.2 = (fun j => j == 4 || j == 6)) (hxt : (∀ z ∈ x.2.2.1.2.1.exceptionTable.toList, False)) (h18 : Snd x 18 X18) : Snd x 748 (bL_law_748 E Q X18) := by
  unfold bL_law_748
  refine s_aload_n rfl G.b dL_law_748 ?_
  refine s_callVX G (mX0_run EN) q1450 q1451 (sel_cons (r := (RX0, TX0, 10)) (by decide) rfl q1452 (sel_nil)) q76 q1453 nmk_320 (rm_of hF (Nat.le_of_ble_eq_true rfl) (Nat.le_of_ble_eq_true rfl)) dL_law_749 ?_ (sx_out G (fun z hz => (hxt z hz).elim))
  refine s_aload_n rfl G.b dL_law_752 ?_
  refine s_callV G (mX5_run EN) q2243 q2244 (sel_cons (r := (RX5, TX5, 37)) (by decide) rfl q2245 (sel_nil)) q90 q2246 nmk_321 (rm_of hF (Nat.le_of_ble_eq_true rfl) (Nat.le_of_ble_eq_true rfl)) dL_law_753 ?_ (sx_out G (fun z hz => (hxt z hz).elim))
  refine s_icmpeq (tgt := 1064) G.b dL_law_756 (by decide) (tL_law_1064 EN G hF hC hxt h18) ?_
  refine s_iconst (by decide) G.b dL_law_759 ?_
  exact s_ireturn G dL_law_760
set_option maxHeartbeats 4000000 in
theorem tL_law_735 {x : CX} {E : Nat → Value} {Q : Rs → HS → Prop} {X18 : Ct} (EN : EX x E) (G : Gd x cL_law "ChantRulesLaw" yL_law 8 (Option.some Jvm.ClassFile.FieldType.boolean) Q) (hF : x.1.2.2.2.frames = 8192 ∧ x.1.2.2.2.locals = 104096) (hC : x.2.2.2.2.2 = (fun j => j == 4 || j == 6)) (hxt : (∀ z ∈ x.2.2.1.2.1.exceptionTable.toList, False)) (h18 : Snd x 18 X18) : Snd x 735 (bL_law_735 E Q X18) := by
  unfold bL_law_735
  refine s_aload_n rfl G.b dL_law_735 ?_
  refine s_callV G (mX0_clear EN) q1426 q1427 (sel_cons (r := (RX0, TX0, 10)) (by decide) rfl q1428 (sel_nil)) q76 q1429 nmk_322 (rm_of hF (Nat.le_of_ble_eq_true rfl) (Nat.le_of_ble_eq_true rfl)) dL_law_736 ?_ (sx_out G (fun z hz => (hxt z hz).elim))
  refine s_aload_n rfl G.b dL_law_739 ?_
  refine s_callV G (mX5_clear EN) q2239 q2240 (sel_cons (r := (RX5, TX5, 37)) (by decide) rfl q2241 (sel_nil)) q90 q2242 nmk_323 (rm_of hF (Nat.le_of_ble_eq_true rfl) (Nat.le_of_ble_eq_true rfl)) dL_law_740 ?_ (sx_out G (fun z hz => (hxt z hz).elim))
  refine s_icmpeq (tgt := 1064) G.b dL_law_743 (by decide) (tL_law_1064 EN G hF hC hxt h18) ?_
  refine s_iconst (by decide) G.b dL_law_746 ?_
  exact s_ireturn G dL_law_747
set_option maxHeartbeats 4000000 in
theorem tL_law_712 {x : CX} {E : Nat → Value} {Q : Rs → HS → Prop} {X18 : Ct} (EN : EX x E) (G : Gd x cL_law "ChantRulesLaw" yL_law 8 (Option.some Jvm.ClassFile.FieldType.boolean) Q) (hF : x.1.2.2.2.frames = 8192 ∧ x.1.2.2.2.locals = 104096) (hC : x.2.2.2.2.2 = (fun j => j == 4 || j == 6)) (hxt : (∀ z ∈ x.2.2.1.2.1.exceptionTable.toList, False)) (h18 : Snd x 18 X18) : Snd x 712 (bL_law_712 E Q X18) := by
  unfold bL_law_712
  refine s_aload_n rfl G.b dL_law_712 ?_
  refine s_aload_n rfl G.b dL_law_713 ?_
  refine s_iload_n rfl G.b dL_law_714 ?_
  refine s_iconst (by decide) G.b dL_law_715 ?_
  refine s_iadd G.b dL_law_716 ?_
  refine s_sld EN G dL_law_717 ?_
  refine s_callV G (mX0_append EN) q1421 q1422 (sel_cons (r := (RX0, TX0, 10)) (by decide) rfl q1423 (sel_nil)) q76 q1424 nmk_324 (rm_of hF (Nat.le_of_ble_eq_true rfl) (Nat.le_of_ble_eq_true rfl)) dL_law_718 ?_ (sx_out G (fun z hz => (hxt z hz).elim))
  refine s_aload_n rfl G.b dL_law_721 ?_
  refine s_aload_n rfl G.b dL_law_722 ?_
  refine s_iload_n rfl G.b dL_law_723 ?_
  refine s_iconst (by decide) G.b dL_law_724 ?_
  refine s_iadd G.b dL_law_725 ?_
  refine s_sld EN G dL_law_726 ?_
  refine s_callV G (mX5_append EN) q2235 q2236 (sel_cons (r := (RX5, TX5, 37)) (by decide) rfl q2237 (sel_nil)) q90 q2238 nmk_325 (rm_of hF (Nat.le_of_ble_eq_true rfl) (Nat.le_of_ble_eq_true rfl)) dL_law_727 ?_ (sx_out G (fun z hz => (hxt z hz).elim))
  refine s_icmpeq (tgt := 1064) G.b dL_law_730 (by decide) (tL_law_1064 EN G hF hC hxt h18) ?_
  refine s_iconst (by decide) G.b dL_law_733 ?_
  exact s_ireturn G dL_law_734
set_option maxHeartbeats 4000000 in
theorem tL_law_679 {x : CX} {E : Nat → Value} {Q : Rs → HS → Prop} {X18 : Ct} (EN : EX x E) (G : Gd x cL_law "ChantRulesLaw" yL_law 8 (Option.some Jvm.ClassFile.FieldType.boolean) Q) (hF : x.1.2.2.2.frames = 8192 ∧ x.1.2.2.2.locals = 104096) (hC : x.2.2.2.2.2 = (fun j => j == 4 || j == 6)) (hxt : (∀ z ∈ x.2.2.1.2.1.exceptionTable.toList, False)) (h18 : Snd x 18 X18) : Snd x 679 (bL_law_679 E Q X18) := by
  unfold bL_law_679
  refine s_aload_n rfl G.b dL_law_679 ?_
  refine s_aload_n rfl G.b dL_law_680 ?_
  refine s_iload_n rfl G.b dL_law_681 ?_
  refine s_iconst (by decide) G.b dL_law_682 ?_
  refine s_iadd G.b dL_law_683 ?_
  refine s_sld EN G dL_law_684 ?_
  refine s_aload_n rfl G.b dL_law_685 ?_
  refine s_iload_n rfl G.b dL_law_686 ?_
  refine s_iconst (by decide) G.b dL_law_687 ?_
  refine s_iadd G.b dL_law_688 ?_
  refine s_sld EN G dL_law_689 ?_
  refine s_callV G (mX0_ranked EN) q1409 q1410 (sel_cons (r := (RX0, TX0, 10)) (by decide) rfl q1411 (sel_nil)) q76 q1412 nmk_326 (rm_of hF (Nat.le_of_ble_eq_true rfl) (Nat.le_of_ble_eq_true rfl)) dL_law_690 ?_ (sx_out G (fun z hz => (hxt z hz).elim))
  refine s_aload_n rfl G.b dL_law_693 ?_
  refine s_aload_n rfl G.b dL_law_694 ?_
  refine s_iload_n rfl G.b dL_law_695 ?_
  refine s_iconst (by decide) G.b dL_law_696 ?_
  refine s_iadd G.b dL_law_697 ?_
  refine s_sld EN G dL_law_698 ?_
  refine s_aload_n rfl G.b dL_law_699 ?_
  refine s_iload_n rfl G.b dL_law_700 ?_
  refine s_iconst (by decide) G.b dL_law_701 ?_
  refine s_iadd G.b dL_law_702 ?_
  refine s_sld EN G dL_law_703 ?_
  refine s_callV G (mX5_ranked EN) q2227 q2228 (sel_cons (r := (RX5, TX5, 37)) (by decide) rfl q2229 (sel_nil)) q90 q2230 nmk_327 (rm_of hF (Nat.le_of_ble_eq_true rfl) (Nat.le_of_ble_eq_true rfl)) dL_law_704 ?_ (sx_out G (fun z hz => (hxt z hz).elim))
  refine s_icmpeq (tgt := 1064) G.b dL_law_707 (by decide) (tL_law_1064 EN G hF hC hxt h18) ?_
  refine s_iconst (by decide) G.b dL_law_710 ?_
  exact s_ireturn G dL_law_711
set_option maxHeartbeats 4000000 in
theorem tL_law_656 {x : CX} {E : Nat → Value} {Q : Rs → HS → Prop} {X18 : Ct} (EN : EX x E) (G : Gd x cL_law "ChantRulesLaw" yL_law 8 (Option.some Jvm.ClassFile.FieldType.boolean) Q) (hF : x.1.2.2.2.frames = 8192 ∧ x.1.2.2.2.locals = 104096) (hC : x.2.2.2.2.2 = (fun j => j == 4 || j == 6)) (hxt : (∀ z ∈ x.2.2.1.2.1.exceptionTable.toList, False)) (h18 : Snd x 18 X18) : Snd x 656 (bL_law_656 E Q X18) := by
  unfold bL_law_656
  refine s_aload_n rfl G.b dL_law_656 ?_
  refine s_aload_n rfl G.b dL_law_657 ?_
  refine s_iload_n rfl G.b dL_law_658 ?_
  refine s_iconst (by decide) G.b dL_law_659 ?_
  refine s_iadd G.b dL_law_660 ?_
  refine s_sld EN G dL_law_661 ?_
  refine s_callV G (mX0_breathes EN) q1392 q1393 (sel_cons (r := (RX0, TX0, 10)) (by decide) rfl q1394 (sel_nil)) q76 q1395 nmk_328 (rm_of hF (Nat.le_of_ble_eq_true rfl) (Nat.le_of_ble_eq_true rfl)) dL_law_662 ?_ (sx_out G (fun z hz => (hxt z hz).elim))
  refine s_aload_n rfl G.b dL_law_665 ?_
  refine s_aload_n rfl G.b dL_law_666 ?_
  refine s_iload_n rfl G.b dL_law_667 ?_
  refine s_iconst (by decide) G.b dL_law_668 ?_
  refine s_iadd G.b dL_law_669 ?_
  refine s_sld EN G dL_law_670 ?_
  refine s_callV G (mX5_breathes EN) q2223 q2224 (sel_cons (r := (RX5, TX5, 37)) (by decide) rfl q2225 (sel_nil)) q90 q2226 nmk_329 (rm_of hF (Nat.le_of_ble_eq_true rfl) (Nat.le_of_ble_eq_true rfl)) dL_law_671 ?_ (sx_out G (fun z hz => (hxt z hz).elim))
  refine s_icmpeq (tgt := 1064) G.b dL_law_674 (by decide) (tL_law_1064 EN G hF hC hxt h18) ?_
  refine s_iconst (by decide) G.b dL_law_677 ?_
  exact s_ireturn G dL_law_678
set_option maxHeartbeats 4000000 in
theorem tL_law_633 {x : CX} {E : Nat → Value} {Q : Rs → HS → Prop} {X18 : Ct} (EN : EX x E) (G : Gd x cL_law "ChantRulesLaw" yL_law 8 (Option.some Jvm.ClassFile.FieldType.boolean) Q) (hF : x.1.2.2.2.frames = 8192 ∧ x.1.2.2.2.locals = 104096) (hC : x.2.2.2.2.2 = (fun j => j == 4 || j == 6)) (hxt : (∀ z ∈ x.2.2.1.2.1.exceptionTable.toList, False)) (h18 : Snd x 18 X18) : Snd x 633 (bL_law_633 E Q X18) := by
  unfold bL_law_633
  refine s_aload_n rfl G.b dL_law_633 ?_
  refine s_aload_n rfl G.b dL_law_634 ?_
  refine s_iload_n rfl G.b dL_law_635 ?_
  refine s_iconst (by decide) G.b dL_law_636 ?_
  refine s_iadd G.b dL_law_637 ?_
  refine s_sld EN G dL_law_638 ?_
  refine s_callV G (mX0_shortest EN) q1388 q1389 (sel_cons (r := (RX0, TX0, 10)) (by decide) rfl q1390 (sel_nil)) q76 q1391 nmk_330 (rm_of hF (Nat.le_of_ble_eq_true rfl) (Nat.le_of_ble_eq_true rfl)) dL_law_639 ?_ (sx_out G (fun z hz => (hxt z hz).elim))
  refine s_aload_n rfl G.b dL_law_642 ?_
  refine s_aload_n rfl G.b dL_law_643 ?_
  refine s_iload_n rfl G.b dL_law_644 ?_
  refine s_iconst (by decide) G.b dL_law_645 ?_
  refine s_iadd G.b dL_law_646 ?_
  refine s_sld EN G dL_law_647 ?_
  refine s_callV G (mX5_shortest EN) q2219 q2220 (sel_cons (r := (RX5, TX5, 37)) (by decide) rfl q2221 (sel_nil)) q90 q2222 nmk_331 (rm_of hF (Nat.le_of_ble_eq_true rfl) (Nat.le_of_ble_eq_true rfl)) dL_law_648 ?_ (sx_out G (fun z hz => (hxt z hz).elim))
  refine s_icmpeq (tgt := 1064) G.b dL_law_651 (by decide) (tL_law_1064 EN G hF hC hxt h18) ?_
  refine s_iconst (by decide) G.b dL_law_654 ?_
  exact s_ireturn G dL_law_655
set_option maxHeartbeats 4000000 in
theorem tL_law_610 {x : CX} {E : Nat → Value} {Q : Rs → HS → Prop} {X18 : Ct} (EN : EX x E) (G : Gd x cL_law "ChantRulesLaw" yL_law 8 (Option.some Jvm.ClassFile.FieldType.boolean) Q) (hF : x.1.2.2.2.frames = 8192 ∧ x.1.2.2.2.locals = 104096) (hC : x.2.2.2.2.2 = (fun j => j == 4 || j == 6)) (hxt : (∀ z ∈ x.2.2.1.2.1.exceptionTable.toList, False)) (h18 : Snd x 18 X18) : Snd x 610 (bL_law_610 E Q X18) := by
  unfold bL_law_610
  refine s_aload_n rfl G.b dL_law_610 ?_
  refine s_aload_n rfl G.b dL_law_611 ?_
  refine s_iload_n rfl G.b dL_law_612 ?_
  refine s_iconst (by decide) G.b dL_law_613 ?_
  refine s_iadd G.b dL_law_614 ?_
  refine s_sld EN G dL_law_615 ?_
  refine s_callV G (mX0_cheapest EN) q1376 q1377 (sel_cons (r := (RX0, TX0, 10)) (by decide) rfl q1378 (sel_nil)) q76 q1379 nmk_332 (rm_of hF (Nat.le_of_ble_eq_true rfl) (Nat.le_of_ble_eq_true rfl)) dL_law_616 ?_ (sx_out G (fun z hz => (hxt z hz).elim))
  refine s_aload_n rfl G.b dL_law_619 ?_
  refine s_aload_n rfl G.b dL_law_620 ?_
  refine s_iload_n rfl G.b dL_law_621 ?_
  refine s_iconst (by decide) G.b dL_law_622 ?_
  refine s_iadd G.b dL_law_623 ?_
  refine s_sld EN G dL_law_624 ?_
  refine s_callV G (mX5_cheapest EN) q2206 q2207 (sel_cons (r := (RX5, TX5, 37)) (by decide) rfl q2208 (sel_nil)) q90 q2209 nmk_333 (rm_of hF (Nat.le_of_ble_eq_true rfl) (Nat.le_of_ble_eq_true rfl)) dL_law_625 ?_ (sx_out G (fun z hz => (hxt z hz).elim))
  refine s_icmpeq (tgt := 1064) G.b dL_law_628 (by decide) (tL_law_1064 EN G hF hC hxt h18) ?_
  refine s_iconst (by decide) G.b dL_law_631 ?_
  exact s_ireturn G dL_law_632
set_option maxHeartbeats 4000000 in
theorem tL_law_587 {x : CX} {E : Nat → Value} {Q : Rs → HS → Prop} {X18 : Ct} (EN : EX x E) (G : Gd x cL_law "ChantRulesLaw" yL_law 8 (Option.some Jvm.ClassFile.FieldType.boolean) Q) (hF : x.1.2.2.2.frames = 8192 ∧ x.1.2.2.2.locals = 104096) (hC : x.2.2.2.2.2 = (fun j => j == 4 || j == 6)) (hxt : (∀ z ∈ x.2.2.1.2.1.exceptionTable.toList, False)) (h18 : Snd x 18 X18) : Snd x 587 (bL_law_587 E Q X18) := by
  unfold bL_law_587
  refine s_aload_n rfl G.b dL_law_587 ?_
  refine s_aload_n rfl G.b dL_law_588 ?_
  refine s_iload_n rfl G.b dL_law_589 ?_
  refine s_iconst (by decide) G.b dL_law_590 ?_
  refine s_iadd G.b dL_law_591 ?_
  refine s_sld EN G dL_law_592 ?_
  refine s_callV G (mX0_composed EN) q1357 q1358 (sel_cons (r := (RX0, TX0, 10)) (by decide) rfl q1359 (sel_nil)) q76 q1360 nmk_334 (rm_of hF (Nat.le_of_ble_eq_true rfl) (Nat.le_of_ble_eq_true rfl)) dL_law_593 ?_ (sx_out G (fun z hz => (hxt z hz).elim))
  refine s_aload_n rfl G.b dL_law_596 ?_
  refine s_aload_n rfl G.b dL_law_597 ?_
  refine s_iload_n rfl G.b dL_law_598 ?_
  refine s_iconst (by decide) G.b dL_law_599 ?_
  refine s_iadd G.b dL_law_600 ?_
  refine s_sld EN G dL_law_601 ?_
  refine s_callV G (mX5_composed EN) q2202 q2203 (sel_cons (r := (RX5, TX5, 37)) (by decide) rfl q2204 (sel_nil)) q90 q2205 nmk_335 (rm_of hF (Nat.le_of_ble_eq_true rfl) (Nat.le_of_ble_eq_true rfl)) dL_law_602 ?_ (sx_out G (fun z hz => (hxt z hz).elim))
  refine s_icmpeq (tgt := 1064) G.b dL_law_605 (by decide) (tL_law_1064 EN G hF hC hxt h18) ?_
  refine s_iconst (by decide) G.b dL_law_608 ?_
  exact s_ireturn G dL_law_609
set_option maxHeartbeats 4000000 in
theorem tL_law_574 {x : CX} {E : Nat → Value} {Q : Rs → HS → Prop} {X18 : Ct} (EN : EX x E) (G : Gd x cL_law "ChantRulesLaw" yL_law 8 (Option.some Jvm.ClassFile.FieldType.boolean) Q) (hF : x.1.2.2.2.frames = 8192 ∧ x.1.2.2.2.locals = 104096) (hC : x.2.2.2.2.2 = (fun j => j == 4 || j == 6)) (hxt : (∀ z ∈ x.2.2.1.2.1.exceptionTable.toList, False)) (h18 : Snd x 18 X18) : Snd x 574 (bL_law_574 E Q X18) := by
  unfold bL_law_574
  refine s_aload_n rfl G.b dL_law_574 ?_
  refine s_callV G (mX0_singBoth EN) q1353 q1354 (sel_cons (r := (RX0, TX0, 10)) (by decide) rfl q1355 (sel_nil)) q76 q1356 nmk_336 (rm_of hF (Nat.le_of_ble_eq_true rfl) (Nat.le_of_ble_eq_true rfl)) dL_law_575 ?_ (sx_out G (fun z hz => (hxt z hz).elim))
  refine s_aload_n rfl G.b dL_law_578 ?_
  refine s_callV G (mX5_singBoth EN) q2198 q2199 (sel_cons (r := (RX5, TX5, 37)) (by decide) rfl q2200 (sel_nil)) q90 q2201 nmk_337 (rm_of hF (Nat.le_of_ble_eq_true rfl) (Nat.le_of_ble_eq_true rfl)) dL_law_579 ?_ (sx_out G (fun z hz => (hxt z hz).elim))
  refine s_icmpeq (tgt := 1064) G.b dL_law_582 (by decide) (tL_law_1064 EN G hF hC hxt h18) ?_
  refine s_iconst (by decide) G.b dL_law_585 ?_
  exact s_ireturn G dL_law_586
set_option maxHeartbeats 4000000 in
theorem tL_law_561 {x : CX} {E : Nat → Value} {Q : Rs → HS → Prop} {X18 : Ct} (EN : EX x E) (G : Gd x cL_law "ChantRulesLaw" yL_law 8 (Option.some Jvm.ClassFile.FieldType.boolean) Q) (hF : x.1.2.2.2.frames = 8192 ∧ x.1.2.2.2.locals = 104096) (hC : x.2.2.2.2.2 = (fun j => j == 4 || j == 6)) (hxt : (∀ z ∈ x.2.2.1.2.1.exceptionTable.toList, False)) (h18 : Snd x 18 X18) : Snd x 561 (bL_law_561 E Q X18) := by
  unfold bL_law_561
  refine s_aload_n rfl G.b dL_law_561 ?_
  refine s_callV G (mX0_bothAgain EN) q1301 q1302 (sel_cons (r := (RX0, TX0, 10)) (by decide) rfl q1303 (sel_nil)) q76 q1304 nmk_338 (rm_of hF (Nat.le_of_ble_eq_true rfl) (Nat.le_of_ble_eq_true rfl)) dL_law_562 ?_ (sx_out G (fun z hz => (hxt z hz).elim))
  refine s_aload_n rfl G.b dL_law_565 ?_
  refine s_callV G (mX5_bothAgain EN) q2193 q2194 (sel_cons (r := (RX5, TX5, 37)) (by decide) rfl q2195 (sel_nil)) q90 q2196 nmk_339 (rm_of hF (Nat.le_of_ble_eq_true rfl) (Nat.le_of_ble_eq_true rfl)) dL_law_566 ?_ (sx_out G (fun z hz => (hxt z hz).elim))
  refine s_icmpeq (tgt := 1064) G.b dL_law_569 (by decide) (tL_law_1064 EN G hF hC hxt h18) ?_
  refine s_iconst (by decide) G.b dL_law_572 ?_
  exact s_ireturn G dL_law_573
set_option maxHeartbeats 4000000 in
theorem tL_law_548 {x : CX} {E : Nat → Value} {Q : Rs → HS → Prop} {X18 : Ct} (EN : EX x E) (G : Gd x cL_law "ChantRulesLaw" yL_law 8 (Option.some Jvm.ClassFile.FieldType.boolean) Q) (hF : x.1.2.2.2.frames = 8192 ∧ x.1.2.2.2.locals = 104096) (hC : x.2.2.2.2.2 = (fun j => j == 4 || j == 6)) (hxt : (∀ z ∈ x.2.2.1.2.1.exceptionTable.toList, False)) (h18 : Snd x 18 X18) : Snd x 548 (bL_law_548 E Q X18) := by
  unfold bL_law_548
  refine s_aload_n rfl G.b dL_law_548 ?_
  refine s_callV G (mX0_both EN) q1237 q1238 (sel_cons (r := (RX0, TX0, 10)) (by decide) rfl q1239 (sel_nil)) q76 q1240 nmk_340 (rm_of hF (Nat.le_of_ble_eq_true rfl) (Nat.le_of_ble_eq_true rfl)) dL_law_549 ?_ (sx_out G (fun z hz => (hxt z hz).elim))
  refine s_aload_n rfl G.b dL_law_552 ?_
  refine s_callV G (mX5_both EN) q2178 q2179 (sel_cons (r := (RX5, TX5, 37)) (by decide) rfl q2180 (sel_nil)) q90 q2181 nmk_272 (rm_of hF (Nat.le_of_ble_eq_true rfl) (Nat.le_of_ble_eq_true rfl)) dL_law_553 ?_ (sx_out G (fun z hz => (hxt z hz).elim))
  refine s_icmpeq (tgt := 1064) G.b dL_law_556 (by decide) (tL_law_1064 EN G hF hC hxt h18) ?_
  refine s_iconst (by decide) G.b dL_law_559 ?_
  exact s_ireturn G dL_law_560
set_option maxHeartbeats 4000000 in
theorem tL_law_525 {x : CX} {E : Nat → Value} {Q : Rs → HS → Prop} {X18 : Ct} (EN : EX x E) (G : Gd x cL_law "ChantRulesLaw" yL_law 8 (Option.some Jvm.ClassFile.FieldType.boolean) Q) (hF : x.1.2.2.2.frames = 8192 ∧ x.1.2.2.2.locals = 104096) (hC : x.2.2.2.2.2 = (fun j => j == 4 || j == 6)) (hxt : (∀ z ∈ x.2.2.1.2.1.exceptionTable.toList, False)) (h18 : Snd x 18 X18) : Snd x 525 (bL_law_525 E Q X18) := by
  unfold bL_law_525
  refine s_aload_n rfl G.b dL_law_525 ?_
  refine s_aload_n rfl G.b dL_law_526 ?_
  refine s_iload_n rfl G.b dL_law_527 ?_
  refine s_iconst (by decide) G.b dL_law_528 ?_
  refine s_iadd G.b dL_law_529 ?_
  refine s_sld EN G dL_law_530 ?_
  refine s_callV G (mX0_sing EN) q1090 q1091 (sel_cons (r := (RX0, TX0, 10)) (by decide) rfl q1092 (sel_nil)) q76 q1093 nmk_341 (rm_of hF (Nat.le_of_ble_eq_true rfl) (Nat.le_of_ble_eq_true rfl)) dL_law_531 ?_ (sx_out G (fun z hz => (hxt z hz).elim))
  refine s_aload_n rfl G.b dL_law_534 ?_
  refine s_aload_n rfl G.b dL_law_535 ?_
  refine s_iload_n rfl G.b dL_law_536 ?_
  refine s_iconst (by decide) G.b dL_law_537 ?_
  refine s_iadd G.b dL_law_538 ?_
  refine s_sld EN G dL_law_539 ?_
  refine s_callV G (mX5_sing EN) q2166 q2167 (sel_cons (r := (RX5, TX5, 37)) (by decide) rfl q2168 (sel_nil)) q90 q2169 nmk_342 (rm_of hF (Nat.le_of_ble_eq_true rfl) (Nat.le_of_ble_eq_true rfl)) dL_law_540 ?_ (sx_out G (fun z hz => (hxt z hz).elim))
  refine s_icmpeq (tgt := 1064) G.b dL_law_543 (by decide) (tL_law_1064 EN G hF hC hxt h18) ?_
  refine s_iconst (by decide) G.b dL_law_546 ?_
  exact s_ireturn G dL_law_547
set_option maxHeartbeats 4000000 in
theorem tL_law_502 {x : CX} {E : Nat → Value} {Q : Rs → HS → Prop} {X18 : Ct} (EN : EX x E) (G : Gd x cL_law "ChantRulesLaw" yL_law 8 (Option.some Jvm.ClassFile.FieldType.boolean) Q) (hF : x.1.2.2.2.frames = 8192 ∧ x.1.2.2.2.locals = 104096) (hC : x.2.2.2.2.2 = (fun j => j == 4 || j == 6)) (hxt : (∀ z ∈ x.2.2.1.2.1.exceptionTable.toList, False)) (h18 : Snd x 18 X18) : Snd x 502 (bL_law_502 E Q X18) := by
  unfold bL_law_502
  refine s_aload_n rfl G.b dL_law_502 ?_
  refine s_aload_n rfl G.b dL_law_503 ?_
  refine s_iload_n rfl G.b dL_law_504 ?_
  refine s_iconst (by decide) G.b dL_law_505 ?_
  refine s_iadd G.b dL_law_506 ?_
  refine s_sld EN G dL_law_507 ?_
  refine s_callV G (mX0_least EN) q928 q929 (sel_cons (r := (RX0, TX0, 10)) (by decide) rfl q930 (sel_nil)) q76 q931 nmk_343 (rm_of hF (Nat.le_of_ble_eq_true rfl) (Nat.le_of_ble_eq_true rfl)) dL_law_508 ?_ (sx_out G (fun z hz => (hxt z hz).elim))
  refine s_aload_n rfl G.b dL_law_511 ?_
  refine s_aload_n rfl G.b dL_law_512 ?_
  refine s_iload_n rfl G.b dL_law_513 ?_
  refine s_iconst (by decide) G.b dL_law_514 ?_
  refine s_iadd G.b dL_law_515 ?_
  refine s_sld EN G dL_law_516 ?_
  refine s_callV G (mX5_least EN) q2138 q2139 (sel_cons (r := (RX5, TX5, 37)) (by decide) rfl q2140 (sel_nil)) q90 q2141 nmk_344 (rm_of hF (Nat.le_of_ble_eq_true rfl) (Nat.le_of_ble_eq_true rfl)) dL_law_517 ?_ (sx_out G (fun z hz => (hxt z hz).elim))
  refine s_icmpeq (tgt := 1064) G.b dL_law_520 (by decide) (tL_law_1064 EN G hF hC hxt h18) ?_
  refine s_iconst (by decide) G.b dL_law_523 ?_
  exact s_ireturn G dL_law_524
set_option maxHeartbeats 4000000 in
theorem tL_law_459 {x : CX} {E : Nat → Value} {Q : Rs → HS → Prop} {X18 : Ct} (EN : EX x E) (G : Gd x cL_law "ChantRulesLaw" yL_law 8 (Option.some Jvm.ClassFile.FieldType.boolean) Q) (hF : x.1.2.2.2.frames = 8192 ∧ x.1.2.2.2.locals = 104096) (hC : x.2.2.2.2.2 = (fun j => j == 4 || j == 6)) (hxt : (∀ z ∈ x.2.2.1.2.1.exceptionTable.toList, False)) (h18 : Snd x 18 X18) : Snd x 459 (bL_law_459 E Q X18) := by
  unfold bL_law_459
  refine s_aload_n rfl G.b dL_law_459 ?_
  refine s_aload_n rfl G.b dL_law_460 ?_
  refine s_iload_n rfl G.b dL_law_461 ?_
  refine s_iconst (by decide) G.b dL_law_462 ?_
  refine s_iadd G.b dL_law_463 ?_
  refine s_sld EN G dL_law_464 ?_
  refine s_aload_n rfl G.b dL_law_465 ?_
  refine s_iload_n rfl G.b dL_law_466 ?_
  refine s_iconst (by decide) G.b dL_law_467 ?_
  refine s_iadd G.b dL_law_468 ?_
  refine s_sld EN G dL_law_469 ?_
  refine s_aload_n rfl G.b dL_law_470 ?_
  refine s_iload_n rfl G.b dL_law_471 ?_
  refine s_iconst (by decide) G.b dL_law_472 ?_
  refine s_iadd G.b dL_law_473 ?_
  refine s_sld EN G dL_law_474 ?_
  refine s_callV G (mX0_stateOf EN) q842 q843 (sel_cons (r := (RX0, TX0, 10)) (by decide) rfl q844 (sel_nil)) q76 q845 nmk_345 (rm_of hF (Nat.le_of_ble_eq_true rfl) (Nat.le_of_ble_eq_true rfl)) dL_law_475 ?_ (sx_out G (fun z hz => (hxt z hz).elim))
  refine s_aload_n rfl G.b dL_law_478 ?_
  refine s_aload_n rfl G.b dL_law_479 ?_
  refine s_iload_n rfl G.b dL_law_480 ?_
  refine s_iconst (by decide) G.b dL_law_481 ?_
  refine s_iadd G.b dL_law_482 ?_
  refine s_sld EN G dL_law_483 ?_
  refine s_aload_n rfl G.b dL_law_484 ?_
  refine s_iload_n rfl G.b dL_law_485 ?_
  refine s_iconst (by decide) G.b dL_law_486 ?_
  refine s_iadd G.b dL_law_487 ?_
  refine s_sld EN G dL_law_488 ?_
  refine s_aload_n rfl G.b dL_law_489 ?_
  refine s_iload_n rfl G.b dL_law_490 ?_
  refine s_iconst (by decide) G.b dL_law_491 ?_
  refine s_iadd G.b dL_law_492 ?_
  refine s_sld EN G dL_law_493 ?_
  refine s_callV G (mX5_stateOf EN) q2114 q2115 (sel_cons (r := (RX5, TX5, 37)) (by decide) rfl q2116 (sel_nil)) q90 q2117 nmk_346 (rm_of hF (Nat.le_of_ble_eq_true rfl) (Nat.le_of_ble_eq_true rfl)) dL_law_494 ?_ (sx_out G (fun z hz => (hxt z hz).elim))
  refine s_icmpeq (tgt := 1064) G.b dL_law_497 (by decide) (tL_law_1064 EN G hF hC hxt h18) ?_
  refine s_iconst (by decide) G.b dL_law_500 ?_
  exact s_ireturn G dL_law_501
set_option maxHeartbeats 4000000 in
theorem tL_law_416 {x : CX} {E : Nat → Value} {Q : Rs → HS → Prop} {X18 : Ct} (EN : EX x E) (G : Gd x cL_law "ChantRulesLaw" yL_law 8 (Option.some Jvm.ClassFile.FieldType.boolean) Q) (hF : x.1.2.2.2.frames = 8192 ∧ x.1.2.2.2.locals = 104096) (hC : x.2.2.2.2.2 = (fun j => j == 4 || j == 6)) (hxt : (∀ z ∈ x.2.2.1.2.1.exceptionTable.toList, False)) (h18 : Snd x 18 X18) : Snd x 416 (bL_law_416 E Q X18) := by
  unfold bL_law_416
  refine s_aload_n rfl G.b dL_law_416 ?_
  refine s_aload_n rfl G.b dL_law_417 ?_
  refine s_iload_n rfl G.b dL_law_418 ?_
  refine s_iconst (by decide) G.b dL_law_419 ?_
  refine s_iadd G.b dL_law_420 ?_
  refine s_sld EN G dL_law_421 ?_
  refine s_aload_n rfl G.b dL_law_422 ?_
  refine s_iload_n rfl G.b dL_law_423 ?_
  refine s_iconst (by decide) G.b dL_law_424 ?_
  refine s_iadd G.b dL_law_425 ?_
  refine s_sld EN G dL_law_426 ?_
  refine s_aload_n rfl G.b dL_law_427 ?_
  refine s_iload_n rfl G.b dL_law_428 ?_
  refine s_iconst (by decide) G.b dL_law_429 ?_
  refine s_iadd G.b dL_law_430 ?_
  refine s_sld EN G dL_law_431 ?_
  refine s_callV G (mX0_arcOf_2 EN) q830 q831 (sel_cons (r := (RX0, TX0, 10)) (by decide) rfl q832 (sel_nil)) q76 q833 nmk_347 (rm_of hF (Nat.le_of_ble_eq_true rfl) (Nat.le_of_ble_eq_true rfl)) dL_law_432 ?_ (sx_out G (fun z hz => (hxt z hz).elim))
  refine s_aload_n rfl G.b dL_law_435 ?_
  refine s_aload_n rfl G.b dL_law_436 ?_
  refine s_iload_n rfl G.b dL_law_437 ?_
  refine s_iconst (by decide) G.b dL_law_438 ?_
  refine s_iadd G.b dL_law_439 ?_
  refine s_sld EN G dL_law_440 ?_
  refine s_aload_n rfl G.b dL_law_441 ?_
  refine s_iload_n rfl G.b dL_law_442 ?_
  refine s_iconst (by decide) G.b dL_law_443 ?_
  refine s_iadd G.b dL_law_444 ?_
  refine s_sld EN G dL_law_445 ?_
  refine s_aload_n rfl G.b dL_law_446 ?_
  refine s_iload_n rfl G.b dL_law_447 ?_
  refine s_iconst (by decide) G.b dL_law_448 ?_
  refine s_iadd G.b dL_law_449 ?_
  refine s_sld EN G dL_law_450 ?_
  refine s_callV G (mX5_arcOf EN) q2110 q2111 (sel_cons (r := (RX5, TX5, 37)) (by decide) rfl q2112 (sel_nil)) q90 q2113 nmk_348 (rm_of hF (Nat.le_of_ble_eq_true rfl) (Nat.le_of_ble_eq_true rfl)) dL_law_451 ?_ (sx_out G (fun z hz => (hxt z hz).elim))
  refine s_icmpeq (tgt := 1064) G.b dL_law_454 (by decide) (tL_law_1064 EN G hF hC hxt h18) ?_
  refine s_iconst (by decide) G.b dL_law_457 ?_
  exact s_ireturn G dL_law_458
set_option maxHeartbeats 4000000 in
theorem tL_law_393 {x : CX} {E : Nat → Value} {Q : Rs → HS → Prop} {X18 : Ct} (EN : EX x E) (G : Gd x cL_law "ChantRulesLaw" yL_law 8 (Option.some Jvm.ClassFile.FieldType.boolean) Q) (hF : x.1.2.2.2.frames = 8192 ∧ x.1.2.2.2.locals = 104096) (hC : x.2.2.2.2.2 = (fun j => j == 4 || j == 6)) (hxt : (∀ z ∈ x.2.2.1.2.1.exceptionTable.toList, False)) (h18 : Snd x 18 X18) : Snd x 393 (bL_law_393 E Q X18) := by
  unfold bL_law_393
  refine s_aload_n rfl G.b dL_law_393 ?_
  refine s_aload_n rfl G.b dL_law_394 ?_
  refine s_iload_n rfl G.b dL_law_395 ?_
  refine s_iconst (by decide) G.b dL_law_396 ?_
  refine s_iadd G.b dL_law_397 ?_
  refine s_sld EN G dL_law_398 ?_
  refine s_callVX G (mX0_turn EN) q809 q810 (sel_cons (r := (RX0, TX0, 10)) (by decide) rfl q811 (sel_nil)) q76 q812 nmk_349 (rm_of hF (Nat.le_of_ble_eq_true rfl) (Nat.le_of_ble_eq_true rfl)) dL_law_399 ?_ (sx_out G (fun z hz => (hxt z hz).elim))
  refine s_aload_n rfl G.b dL_law_402 ?_
  refine s_aload_n rfl G.b dL_law_403 ?_
  refine s_iload_n rfl G.b dL_law_404 ?_
  refine s_iconst (by decide) G.b dL_law_405 ?_
  refine s_iadd G.b dL_law_406 ?_
  refine s_sld EN G dL_law_407 ?_
  refine s_callV G (mX5_turn EN) q2102 q2103 (sel_cons (r := (RX5, TX5, 37)) (by decide) rfl q2104 (sel_nil)) q90 q2105 nmk_350 (rm_of hF (Nat.le_of_ble_eq_true rfl) (Nat.le_of_ble_eq_true rfl)) dL_law_408 ?_ (sx_out G (fun z hz => (hxt z hz).elim))
  refine s_icmpeq (tgt := 1064) G.b dL_law_411 (by decide) (tL_law_1064 EN G hF hC hxt h18) ?_
  refine s_iconst (by decide) G.b dL_law_414 ?_
  exact s_ireturn G dL_law_415
set_option maxHeartbeats 4000000 in
theorem tL_law_360 {x : CX} {E : Nat → Value} {Q : Rs → HS → Prop} {X18 : Ct} (EN : EX x E) (G : Gd x cL_law "ChantRulesLaw" yL_law 8 (Option.some Jvm.ClassFile.FieldType.boolean) Q) (hF : x.1.2.2.2.frames = 8192 ∧ x.1.2.2.2.locals = 104096) (hC : x.2.2.2.2.2 = (fun j => j == 4 || j == 6)) (hxt : (∀ z ∈ x.2.2.1.2.1.exceptionTable.toList, False)) (h18 : Snd x 18 X18) : Snd x 360 (bL_law_360 E Q X18) := by
  unfold bL_law_360
  refine s_aload_n rfl G.b dL_law_360 ?_
  refine s_aload_n rfl G.b dL_law_361 ?_
  refine s_iload_n rfl G.b dL_law_362 ?_
  refine s_iconst (by decide) G.b dL_law_363 ?_
  refine s_iadd G.b dL_law_364 ?_
  refine s_sld EN G dL_law_365 ?_
  refine s_aload_n rfl G.b dL_law_366 ?_
  refine s_iload_n rfl G.b dL_law_367 ?_
  refine s_iconst (by decide) G.b dL_law_368 ?_
  refine s_iadd G.b dL_law_369 ?_
  refine s_sld EN G dL_law_370 ?_
  refine s_callV G (mX0_drop EN) q788 q789 (sel_cons (r := (RX0, TX0, 10)) (by decide) rfl q790 (sel_nil)) q76 q791 nmk_351 (rm_of hF (Nat.le_of_ble_eq_true rfl) (Nat.le_of_ble_eq_true rfl)) dL_law_371 ?_ (sx_out G (fun z hz => (hxt z hz).elim))
  refine s_aload_n rfl G.b dL_law_374 ?_
  refine s_aload_n rfl G.b dL_law_375 ?_
  refine s_iload_n rfl G.b dL_law_376 ?_
  refine s_iconst (by decide) G.b dL_law_377 ?_
  refine s_iadd G.b dL_law_378 ?_
  refine s_sld EN G dL_law_379 ?_
  refine s_aload_n rfl G.b dL_law_380 ?_
  refine s_iload_n rfl G.b dL_law_381 ?_
  refine s_iconst (by decide) G.b dL_law_382 ?_
  refine s_iadd G.b dL_law_383 ?_
  refine s_sld EN G dL_law_384 ?_
  refine s_callV G (mX5_drop EN) q2094 q2095 (sel_cons (r := (RX5, TX5, 37)) (by decide) rfl q2096 (sel_nil)) q90 q2097 nmk_352 (rm_of hF (Nat.le_of_ble_eq_true rfl) (Nat.le_of_ble_eq_true rfl)) dL_law_385 ?_ (sx_out G (fun z hz => (hxt z hz).elim))
  refine s_icmpeq (tgt := 1064) G.b dL_law_388 (by decide) (tL_law_1064 EN G hF hC hxt h18) ?_
  refine s_iconst (by decide) G.b dL_law_391 ?_
  exact s_ireturn G dL_law_392
set_option maxHeartbeats 4000000 in
theorem tL_law_317 {x : CX} {E : Nat → Value} {Q : Rs → HS → Prop} {X18 : Ct} (EN : EX x E) (G : Gd x cL_law "ChantRulesLaw" yL_law 8 (Option.some Jvm.ClassFile.FieldType.boolean) Q) (hF : x.1.2.2.2.frames = 8192 ∧ x.1.2.2.2.locals = 104096) (hC : x.2.2.2.2.2 = (fun j => j == 4 || j == 6)) (hxt : (∀ z ∈ x.2.2.1.2.1.exceptionTable.toList, False)) (h18 : Snd x 18 X18) : Snd x 317 (bL_law_317 E Q X18) := by
  unfold bL_law_317
  refine s_aload_n rfl G.b dL_law_317 ?_
  refine s_aload_n rfl G.b dL_law_318 ?_
  refine s_iload_n rfl G.b dL_law_319 ?_
  refine s_iconst (by decide) G.b dL_law_320 ?_
  refine s_iadd G.b dL_law_321 ?_
  refine s_sld EN G dL_law_322 ?_
  refine s_aload_n rfl G.b dL_law_323 ?_
  refine s_iload_n rfl G.b dL_law_324 ?_
  refine s_iconst (by decide) G.b dL_law_325 ?_
  refine s_iadd G.b dL_law_326 ?_
  refine s_sld EN G dL_law_327 ?_
  refine s_aload_n rfl G.b dL_law_328 ?_
  refine s_iload_n rfl G.b dL_law_329 ?_
  refine s_iconst (by decide) G.b dL_law_330 ?_
  refine s_iadd G.b dL_law_331 ?_
  refine s_sld EN G dL_law_332 ?_
  refine s_callVX G (mX0_weigh EN) q751 q752 (sel_cons (r := (RX0, TX0, 10)) (by decide) rfl q753 (sel_nil)) q76 q754 nmk_353 (rm_of hF (Nat.le_of_ble_eq_true rfl) (Nat.le_of_ble_eq_true rfl)) dL_law_333 ?_ (sx_out G (fun z hz => (hxt z hz).elim))
  refine s_aload_n rfl G.b dL_law_336 ?_
  refine s_aload_n rfl G.b dL_law_337 ?_
  refine s_iload_n rfl G.b dL_law_338 ?_
  refine s_iconst (by decide) G.b dL_law_339 ?_
  refine s_iadd G.b dL_law_340 ?_
  refine s_sld EN G dL_law_341 ?_
  refine s_aload_n rfl G.b dL_law_342 ?_
  refine s_iload_n rfl G.b dL_law_343 ?_
  refine s_iconst (by decide) G.b dL_law_344 ?_
  refine s_iadd G.b dL_law_345 ?_
  refine s_sld EN G dL_law_346 ?_
  refine s_aload_n rfl G.b dL_law_347 ?_
  refine s_iload_n rfl G.b dL_law_348 ?_
  refine s_iconst (by decide) G.b dL_law_349 ?_
  refine s_iadd G.b dL_law_350 ?_
  refine s_sld EN G dL_law_351 ?_
  refine s_callV G (mX5_weigh EN) q2082 q2083 (sel_cons (r := (RX5, TX5, 37)) (by decide) rfl q2084 (sel_nil)) q90 q2085 nmk_354 (rm_of hF (Nat.le_of_ble_eq_true rfl) (Nat.le_of_ble_eq_true rfl)) dL_law_352 ?_ (sx_out G (fun z hz => (hxt z hz).elim))
  refine s_icmpeq (tgt := 1064) G.b dL_law_355 (by decide) (tL_law_1064 EN G hF hC hxt h18) ?_
  refine s_iconst (by decide) G.b dL_law_358 ?_
  exact s_ireturn G dL_law_359
set_option maxHeartbeats 4000000 in
theorem tL_law_290 {x : CX} {E : Nat → Value} {Q : Rs → HS → Prop} {X18 : Ct} (EN : EX x E) (G : Gd x cL_law "ChantRulesLaw" yL_law 8 (Option.some Jvm.ClassFile.FieldType.boolean) Q) (hF : x.1.2.2.2.frames = 8192 ∧ x.1.2.2.2.locals = 104096) (hC : x.2.2.2.2.2 = (fun j => j == 4 || j == 6)) (hxt : (∀ z ∈ x.2.2.1.2.1.exceptionTable.toList, False)) (h18 : Snd x 18 X18) : Snd x 290 (bL_law_290 E Q X18) := by
  unfold bL_law_290
  refine s_iconst (by decide) G.b dL_law_290 ?_
  refine s_iadd G.b dL_law_291 ?_
  refine s_sld EN G dL_law_292 ?_
  refine s_aload_n rfl G.b dL_law_293 ?_
  refine s_iload_n rfl G.b dL_law_294 ?_
  refine s_iconst (by decide) G.b dL_law_295 ?_
  refine s_iadd G.b dL_law_296 ?_
  refine s_sld EN G dL_law_297 ?_
  refine s_aload_n rfl G.b dL_law_298 ?_
  refine s_iload_n rfl G.b dL_law_299 ?_
  refine s_iconst (by decide) G.b dL_law_300 ?_
  refine s_iadd G.b dL_law_301 ?_
  refine s_sld EN G dL_law_302 ?_
  refine s_aload_n rfl G.b dL_law_303 ?_
  refine s_iload_n rfl G.b dL_law_304 ?_
  refine s_bipush (by decide) G.b dL_law_305 ?_
  refine s_iadd G.b dL_law_307 ?_
  refine s_sld EN G dL_law_308 ?_
  refine s_callV G (mX5_arc EN) q2067 q2068 (sel_cons (r := (RX5, TX5, 37)) (by decide) rfl q2069 (sel_nil)) q90 q2070 nmk_355 (rm_of hF (Nat.le_of_ble_eq_true rfl) (Nat.le_of_ble_eq_true rfl)) dL_law_309 ?_ (sx_out G (fun z hz => (hxt z hz).elim))
  refine s_icmpeq (tgt := 1064) G.b dL_law_312 (by decide) (tL_law_1064 EN G hF hC hxt h18) ?_
  refine s_iconst (by decide) G.b dL_law_315 ?_
  exact s_ireturn G dL_law_316
set_option maxHeartbeats 4000000 in
theorem tL_law_242 {x : CX} {E : Nat → Value} {Q : Rs → HS → Prop} {X18 : Ct} (EN : EX x E) (G : Gd x cL_law "ChantRulesLaw" yL_law 8 (Option.some Jvm.ClassFile.FieldType.boolean) Q) (hF : x.1.2.2.2.frames = 8192 ∧ x.1.2.2.2.locals = 104096) (hC : x.2.2.2.2.2 = (fun j => j == 4 || j == 6)) (hxt : (∀ z ∈ x.2.2.1.2.1.exceptionTable.toList, False)) (h18 : Snd x 18 X18) : Snd x 242 (bL_law_242 E Q X18) := by
  unfold bL_law_242
  refine s_aload_n rfl G.b dL_law_242 ?_
  refine s_aload_n rfl G.b dL_law_243 ?_
  refine s_iload_n rfl G.b dL_law_244 ?_
  refine s_iconst (by decide) G.b dL_law_245 ?_
  refine s_iadd G.b dL_law_246 ?_
  refine s_sld EN G dL_law_247 ?_
  refine s_aload_n rfl G.b dL_law_248 ?_
  refine s_iload_n rfl G.b dL_law_249 ?_
  refine s_iconst (by decide) G.b dL_law_250 ?_
  refine s_iadd G.b dL_law_251 ?_
  refine s_sld EN G dL_law_252 ?_
  refine s_aload_n rfl G.b dL_law_253 ?_
  refine s_iload_n rfl G.b dL_law_254 ?_
  refine s_iconst (by decide) G.b dL_law_255 ?_
  refine s_iadd G.b dL_law_256 ?_
  refine s_sld EN G dL_law_257 ?_
  refine s_aload_n rfl G.b dL_law_258 ?_
  refine s_iload_n rfl G.b dL_law_259 ?_
  refine s_iconst (by decide) G.b dL_law_260 ?_
  refine s_iadd G.b dL_law_261 ?_
  refine s_sld EN G dL_law_262 ?_
  refine s_aload_n rfl G.b dL_law_263 ?_
  refine s_iload_n rfl G.b dL_law_264 ?_
  refine s_iconst (by decide) G.b dL_law_265 ?_
  refine s_iadd G.b dL_law_266 ?_
  refine s_sld EN G dL_law_267 ?_
  refine s_aload_n rfl G.b dL_law_268 ?_
  refine s_iload_n rfl G.b dL_law_269 ?_
  refine s_bipush (by decide) G.b dL_law_270 ?_
  refine s_iadd G.b dL_law_272 ?_
  refine s_sld EN G dL_law_273 ?_
  refine s_callVX G (mX0_arc EN) q623 q624 (sel_cons (r := (RX0, TX0, 10)) (by decide) rfl q625 (sel_nil)) q76 q626 nmk_356 (rm_of hF (Nat.le_of_ble_eq_true rfl) (Nat.le_of_ble_eq_true rfl)) dL_law_274 ?_ (sx_out G (fun z hz => (hxt z hz).elim))
  refine s_aload_n rfl G.b dL_law_277 ?_
  refine s_aload_n rfl G.b dL_law_278 ?_
  refine s_iload_n rfl G.b dL_law_279 ?_
  refine s_iconst (by decide) G.b dL_law_280 ?_
  refine s_iadd G.b dL_law_281 ?_
  refine s_sld EN G dL_law_282 ?_
  refine s_aload_n rfl G.b dL_law_283 ?_
  refine s_iload_n rfl G.b dL_law_284 ?_
  refine s_iconst (by decide) G.b dL_law_285 ?_
  refine s_iadd G.b dL_law_286 ?_
  refine s_sld EN G dL_law_287 ?_
  refine s_aload_n rfl G.b dL_law_288 ?_
  refine s_iload_n rfl G.b dL_law_289 ?_
  exact (tL_law_290 EN G hF hC hxt h18)
set_option maxHeartbeats 4000000 in
theorem tL_law_199 {x : CX} {E : Nat → Value} {Q : Rs → HS → Prop} {X18 : Ct} (EN : EX x E) (G : Gd x cL_law "ChantRulesLaw" yL_law 8 (Option.some Jvm.ClassFile.FieldType.boolean) Q) (hF : x.1.2.2.2.frames = 8192 ∧ x.1.2.2.2.locals = 104096) (hC : x.2.2.2.2.2 = (fun j => j == 4 || j == 6)) (hxt : (∀ z ∈ x.2.2.1.2.1.exceptionTable.toList, False)) (h18 : Snd x 18 X18) : Snd x 199 (bL_law_199 E Q X18) := by
  unfold bL_law_199
  refine s_aload_n rfl G.b dL_law_199 ?_
  refine s_aload_n rfl G.b dL_law_200 ?_
  refine s_iload_n rfl G.b dL_law_201 ?_
  refine s_iconst (by decide) G.b dL_law_202 ?_
  refine s_iadd G.b dL_law_203 ?_
  refine s_sld EN G dL_law_204 ?_
  refine s_aload_n rfl G.b dL_law_205 ?_
  refine s_iload_n rfl G.b dL_law_206 ?_
  refine s_iconst (by decide) G.b dL_law_207 ?_
  refine s_iadd G.b dL_law_208 ?_
  refine s_sld EN G dL_law_209 ?_
  refine s_aload_n rfl G.b dL_law_210 ?_
  refine s_iload_n rfl G.b dL_law_211 ?_
  refine s_iconst (by decide) G.b dL_law_212 ?_
  refine s_iadd G.b dL_law_213 ?_
  refine s_sld EN G dL_law_214 ?_
  refine s_callVX G (mX0_end EN) q598 q599 (sel_cons (r := (RX0, TX0, 10)) (by decide) rfl q600 (sel_nil)) q76 q601 nmk_357 (rm_of hF (Nat.le_of_ble_eq_true rfl) (Nat.le_of_ble_eq_true rfl)) dL_law_215 ?_ (sx_out G (fun z hz => (hxt z hz).elim))
  refine s_aload_n rfl G.b dL_law_218 ?_
  refine s_aload_n rfl G.b dL_law_219 ?_
  refine s_iload_n rfl G.b dL_law_220 ?_
  refine s_iconst (by decide) G.b dL_law_221 ?_
  refine s_iadd G.b dL_law_222 ?_
  refine s_sld EN G dL_law_223 ?_
  refine s_aload_n rfl G.b dL_law_224 ?_
  refine s_iload_n rfl G.b dL_law_225 ?_
  refine s_iconst (by decide) G.b dL_law_226 ?_
  refine s_iadd G.b dL_law_227 ?_
  refine s_sld EN G dL_law_228 ?_
  refine s_aload_n rfl G.b dL_law_229 ?_
  refine s_iload_n rfl G.b dL_law_230 ?_
  refine s_iconst (by decide) G.b dL_law_231 ?_
  refine s_iadd G.b dL_law_232 ?_
  refine s_sld EN G dL_law_233 ?_
  refine s_callV G (mX5_end EN) q2051 q2052 (sel_cons (r := (RX5, TX5, 37)) (by decide) rfl q2053 (sel_nil)) q90 q2054 nmk_358 (rm_of hF (Nat.le_of_ble_eq_true rfl) (Nat.le_of_ble_eq_true rfl)) dL_law_234 ?_ (sx_out G (fun z hz => (hxt z hz).elim))
  refine s_icmpeq (tgt := 1064) G.b dL_law_237 (by decide) (tL_law_1064 EN G hF hC hxt h18) ?_
  refine s_iconst (by decide) G.b dL_law_240 ?_
  exact s_ireturn G dL_law_241
set_option maxHeartbeats 4000000 in
theorem tL_law_176 {x : CX} {E : Nat → Value} {Q : Rs → HS → Prop} {X18 : Ct} (EN : EX x E) (G : Gd x cL_law "ChantRulesLaw" yL_law 8 (Option.some Jvm.ClassFile.FieldType.boolean) Q) (hF : x.1.2.2.2.frames = 8192 ∧ x.1.2.2.2.locals = 104096) (hC : x.2.2.2.2.2 = (fun j => j == 4 || j == 6)) (hxt : (∀ z ∈ x.2.2.1.2.1.exceptionTable.toList, False)) (h18 : Snd x 18 X18) : Snd x 176 (bL_law_176 E Q X18) := by
  unfold bL_law_176
  refine s_aload_n rfl G.b dL_law_176 ?_
  refine s_aload_n rfl G.b dL_law_177 ?_
  refine s_iload_n rfl G.b dL_law_178 ?_
  refine s_iconst (by decide) G.b dL_law_179 ?_
  refine s_iadd G.b dL_law_180 ?_
  refine s_sld EN G dL_law_181 ?_
  refine s_callVX G (mX0_state EN) q331 q332 (sel_cons (r := (RX0, TX0, 10)) (by decide) rfl q333 (sel_nil)) q76 q334 nmk_359 (rm_of hF (Nat.le_of_ble_eq_true rfl) (Nat.le_of_ble_eq_true rfl)) dL_law_182 ?_ (sx_out G (fun z hz => (hxt z hz).elim))
  refine s_aload_n rfl G.b dL_law_185 ?_
  refine s_aload_n rfl G.b dL_law_186 ?_
  refine s_iload_n rfl G.b dL_law_187 ?_
  refine s_iconst (by decide) G.b dL_law_188 ?_
  refine s_iadd G.b dL_law_189 ?_
  refine s_sld EN G dL_law_190 ?_
  refine s_callV G (mX5_state EN) q2015 q2016 (sel_cons (r := (RX5, TX5, 37)) (by decide) rfl q2017 (sel_nil)) q90 q2018 nmk_360 (rm_of hF (Nat.le_of_ble_eq_true rfl) (Nat.le_of_ble_eq_true rfl)) dL_law_191 ?_ (sx_out G (fun z hz => (hxt z hz).elim))
  refine s_icmpeq (tgt := 1064) G.b dL_law_194 (by decide) (tL_law_1064 EN G hF hC hxt h18) ?_
  refine s_iconst (by decide) G.b dL_law_197 ?_
  exact s_ireturn G dL_law_198
set_option maxHeartbeats 4000000 in
theorem tL_law_18 {x : CX} {E : Nat → Value} {Q : Rs → HS → Prop} {X18 : Ct} (EN : EX x E) (G : Gd x cL_law "ChantRulesLaw" yL_law 8 (Option.some Jvm.ClassFile.FieldType.boolean) Q) (hF : x.1.2.2.2.frames = 8192 ∧ x.1.2.2.2.locals = 104096) (hC : x.2.2.2.2.2 = (fun j => j == 4 || j == 6)) (hxt : (∀ z ∈ x.2.2.1.2.1.exceptionTable.toList, False)) (h18 : Snd x 18 X18) : Snd x 18 (bL_law_18 E Q X18) := by
  unfold bL_law_18
  refine s_iload_n rfl G.b dL_law_18 ?_
  refine s_aload_n rfl G.b dL_law_19 ?_
  refine s_slen EN G dL_law_20 ?_
  refine s_bipush (by decide) G.b dL_law_21 ?_
  refine s_isub G.b dL_law_23 ?_
  refine s_icmpgt (tgt := 1070) G.b dL_law_24 (by decide) (tL_law_1070 EN G hF hC hxt h18) ?_
  refine s_aload_n rfl G.b dL_law_27 ?_
  refine s_iload_n rfl G.b dL_law_28 ?_
  refine s_sld EN G dL_law_29 ?_
  refine s_bipush (by decide) G.b dL_law_30 ?_
  refine s_iand G.b dL_law_32 ?_
  exact s_tsw (tD := 1064) G.b dL_law_33 (by decide) (tL_law_1064 EN G hF hC hxt h18) rfl (tsw_0 (tsw_cons (143) 176 (by decide) rfl (by decide) (tL_law_176 EN G hF hC hxt h18) (tsw_cons (166) 199 (by decide) rfl (by decide) (tL_law_199 EN G hF hC hxt h18) (tsw_cons (209) 242 (by decide) rfl (by decide) (tL_law_242 EN G hF hC hxt h18) (tsw_cons (284) 317 (by decide) rfl (by decide) (tL_law_317 EN G hF hC hxt h18) (tsw_cons (327) 360 (by decide) rfl (by decide) (tL_law_360 EN G hF hC hxt h18) (tsw_cons (360) 393 (by decide) rfl (by decide) (tL_law_393 EN G hF hC hxt h18) (tsw_cons (383) 416 (by decide) rfl (by decide) (tL_law_416 EN G hF hC hxt h18) (tsw_cons (426) 459 (by decide) rfl (by decide) (tL_law_459 EN G hF hC hxt h18) (tsw_cons (469) 502 (by decide) rfl (by decide) (tL_law_502 EN G hF hC hxt h18) (tsw_cons (492) 525 (by decide) rfl (by decide) (tL_law_525 EN G hF hC hxt h18) (tsw_cons (515) 548 (by decide) rfl (by decide) (tL_law_548 EN G hF hC hxt h18) (tsw_cons (528) 561 (by decide) rfl (by decide) (tL_law_561 EN G hF hC hxt h18) (tsw_cons (541) 574 (by decide) rfl (by decide) (tL_law_574 EN G hF hC hxt h18) (tsw_cons (554) 587 (by decide) rfl (by decide) (tL_law_587 EN G hF hC hxt h18) (tsw_cons (577) 610 (by decide) rfl (by decide) (tL_law_610 EN G hF hC hxt h18) (tsw_cons (600) 633 (by decide) rfl (by decide) (tL_law_633 EN G hF hC hxt h18) (tsw_cons (623) 656 (by decide) rfl (by decide) (tL_law_656 EN G hF hC hxt h18) (tsw_cons (646) 679 (by decide) rfl (by decide) (tL_law_679 EN G hF hC hxt h18) (tsw_cons (679) 712 (by decide) rfl (by decide) (tL_law_712 EN G hF hC hxt h18) (tsw_cons (702) 735 (by decide) rfl (by decide) (tL_law_735 EN G hF hC hxt h18) (tsw_cons (715) 748 (by decide) rfl (by decide) (tL_law_748 EN G hF hC hxt h18) (tsw_cons (728) 761 (by decide) rfl (by decide) (tL_law_761 EN G hF hC hxt h18) (tsw_cons (761) 794 (by decide) rfl (by decide) (tL_law_794 EN G hF hC hxt h18) (tsw_cons (784) 817 (by decide) rfl (by decide) (tL_law_817 EN G hF hC hxt h18) (tsw_cons (807) 840 (by decide) rfl (by decide) (tL_law_840 EN G hF hC hxt h18) (tsw_cons (872) 905 (by decide) rfl (by decide) (tL_law_905 EN G hF hC hxt h18) (tsw_cons (895) 928 (by decide) rfl (by decide) (tL_law_928 EN G hF hC hxt h18) (tsw_cons (908) 941 (by decide) rfl (by decide) (tL_law_941 EN G hF hC hxt h18) (tsw_cons (949) 982 (by decide) rfl (by decide) (tL_law_982 EN G hF hC hxt h18) (tsw_cons (992) 1025 (by decide) rfl (by decide) (tL_law_1025 EN G hF hC hxt h18) (tsw_cons (1005) 1038 (by decide) rfl (by decide) (tL_law_1038 EN G hF hC hxt h18) (tsw_cons (1018) 1051 (by decide) rfl (by decide) (tL_law_1051 EN G hF hC hxt h18) (tsw_nil))))))))))))))))))))))))))))))))))
set_option maxHeartbeats 4000000 in
theorem tL_law_0 {x : CX} {E : Nat → Value} {Q : Rs → HS → Prop} {X18 : Ct} (EN : EX x E) (G : Gd x cL_law "ChantRulesLaw" yL_law 8 (Option.some Jvm.ClassFile.FieldType.boolean) Q) (hF : x.1.2.2.2.frames = 8192 ∧ x.1.2.2.2.locals = 104096) (hC : x.2.2.2.2.2 = (fun j => j == 4 || j == 6)) (hxt : (∀ z ∈ x.2.2.1.2.1.exceptionTable.toList, False)) (h18 : Snd x 18 X18) : Snd x 0 (bL_law_0 E Q X18) := by
  unfold bL_law_0
  refine s_new (C := RX0) (T0 := TX0) (N := 10) G.b G.ow G.kn G.gr G.hts rfl (by decide) in_X0 q116 q117 q76 tyX0 tyX0_ok rfl dL_law_0 ?_
  refine s_dup G.b dL_law_3 ?_
  refine s_callI G (mX0_init EN) rfl q118 q119 q76 q120 nmk_361 (rm_of hF (Nat.le_of_ble_eq_true rfl) (Nat.le_of_ble_eq_true rfl)) dL_law_4 ?_ (sx_out G (fun z hz => (hxt z hz).elim))
  refine s_astore_n rfl G.b (by rw [G.nl]; decide) (fun j hj => by rw [hC, show j = 0 by omega]; rfl) dL_law_7 ?_
  refine s_new (C := RX5) (T0 := TX5) (N := 37) G.b G.ow G.kn G.gr G.hts rfl (by decide) in_X5 q1896 q1897 q90 tyX5 tyX5_ok rfl dL_law_8 ?_
  refine s_dup G.b dL_law_11 ?_
  refine s_callI G (mX5_init EN) rfl q1898 q1899 q90 q1900 nmk_362 (rm_of hF (Nat.le_of_ble_eq_true rfl) (Nat.le_of_ble_eq_true rfl)) dL_law_12 ?_ (sx_out G (fun z hz => (hxt z hz).elim))
  refine s_astore_n rfl G.b (by rw [G.nl]; decide) (fun j hj => by rw [hC, show j = 1 by omega]; rfl) dL_law_15 ?_
  refine s_iconst (by decide) G.b dL_law_16 ?_
  refine s_istore_n rfl G.b (by rw [G.nl]; decide) (fun j hj => by rw [hC, show j = 2 by omega]; rfl) dL_law_17 ?_
  exact h18
