set_option maxRecDepth 100000
/-! ChantRules$Composed.alone(LChantRules$Arc;)V (X11_alone) -/
theorem nmk_95 : nm_ok yX11_pair 2 := ⟨by decide +kernel, by decide +kernel, by decide +kernel⟩
theorem fa_47 : fieldAt [4] 2 "ChantRules$Composed" "arcs" "Ljava/util/ArrayList;" := fa_cons (r := (RX11, TX11, 3)) rfl (by decide) rfl rfl rfl (fa_nil)
def bX11_alone_65 (E : Nat → Value) (Q : Rs → HS → Prop) (X2 : Ct) : Ct :=
  o_return Q
def bX11_alone_52 (E : Nat → Value) (Q : Rs → HS → Prop) (X2 : Ct) : Ct :=
  o_call 5 (wX0_arcOf E) (x_out Q) <|
  o_callV [15] 2 (wJ2_add E) (x_out Q) <|
  o_pop <|
  o_iinc 2 1 <|
  X2
def bX11_alone_45 (E : Nat → Value) (Q : Rs → HS → Prop) (X2 : Ct) : Ct :=
  o_push (.int 4) <|
  o_aload 1 <|
  o_vsel 1 [10] (o_callV [10] 1 (wX7_weight E) (x_out Q) (bX11_alone_52 E Q X2)) (o_callV [11] 1 (wX8_weight E) (x_out Q) (bX11_alone_52 E Q X2))
def bX11_alone_35 (E : Nat → Value) (Q : Rs → HS → Prop) (X2 : Ct) : Ct :=
  o_iload 2 <|
  o_callV [4] 3 (wX11_pair E) (x_out Q) <|
  o_aload 1 <|
  o_vsel 1 [10] (o_callV [10] 1 (wX7_hears E) (x_out Q) (bX11_alone_45 E Q X2)) (o_callV [11] 1 (wX8_hears E) (x_out Q) (bX11_alone_45 E Q X2))
def bX11_alone_24 (E : Nat → Value) (Q : Rs → HS → Prop) (X2 : Ct) : Ct :=
  o_iload 2 <|
  o_callV [4] 3 (wX11_pair E) (x_out Q) <|
  o_aload 0 <|
  o_aload 1 <|
  o_vsel 1 [10] (o_callV [10] 1 (wX7_to E) (x_out Q) (bX11_alone_35 E Q X2)) (o_callV [11] 1 (wX8_to E) (x_out Q) (bX11_alone_35 E Q X2))
def bX11_alone_2 (E : Nat → Value) (Q : Rs → HS → Prop) (X2 : Ct) : Ct :=
  o_iload 2 <|
  o_aload 0 <|
  o_getf [4] 1 <|
  o_getf [2] 2 <|
  o_icmpge (bX11_alone_65 E Q X2) <|
  o_aload 0 <|
  o_getf [4] 2 <|
  o_aload 0 <|
  o_aload 1 <|
  o_vsel 1 [10] (o_callV [10] 1 (wX7_from E) (x_out Q) (bX11_alone_24 E Q X2)) (o_callV [11] 1 (wX8_from E) (x_out Q) (bX11_alone_24 E Q X2))
def bX11_alone_0 (E : Nat → Value) (Q : Rs → HS → Prop) (X2 : Ct) : Ct :=
  o_push (.int 0) <|
  o_istore 2 <|
  X2
def wX11_alone (E : Nat → Value) : Wp := fun av h Q => match av with
  | [a0, a1] => ∀ X2 : Ct, (∀ ls st h, bX11_alone_2 E Q X2 ls st h → X2 ls st h) → bX11_alone_0 E Q X2 [a0, a1, jk] [] h
  | _ => False
set_option maxHeartbeats 4000000 in
theorem tX11_alone_65 {x : CX} {E : Nat → Value} {Q : Rs → HS → Prop} {X2 : Ct} (EN : EX x E) (G : Gd x cX11_alone "ChantRules$Composed" yX11_alone 3 (Option.none : Option Jvm.ClassFile.FieldType) Q) (hF : x.1.2.2.2.frames = 14 ∧ x.1.2.2.2.locals = 331) (hC : x.2.2.2.2.2 = (fun _ => false)) (hxt : (∀ z ∈ x.2.2.1.2.1.exceptionTable.toList, False)) (h2 : Snd x 2 X2) : Snd x 65 (bX11_alone_65 E Q X2) := by
  unfold bX11_alone_65
  exact s_return G dX11_alone_65
set_option maxHeartbeats 4000000 in
theorem tX11_alone_52 {x : CX} {E : Nat → Value} {Q : Rs → HS → Prop} {X2 : Ct} (EN : EX x E) (G : Gd x cX11_alone "ChantRules$Composed" yX11_alone 3 (Option.none : Option Jvm.ClassFile.FieldType) Q) (hF : x.1.2.2.2.frames = 14 ∧ x.1.2.2.2.locals = 331) (hC : x.2.2.2.2.2 = (fun _ => false)) (hxt : (∀ z ∈ x.2.2.1.2.1.exceptionTable.toList, False)) (h2 : Snd x 2 X2) : Snd x 52 (bX11_alone_52 E Q X2) := by
  unfold bX11_alone_52
  refine s_callSN G (mX0_arcOf EN) (va_Nw.use rfl (va_Nw.warmM G.warm (EN.nw q1277 rfl))) q631 q76 q632 nmk_83 (rm_of hF (Nat.le_of_ble_eq_true rfl) (Nat.le_of_ble_eq_true rfl)) dX11_alone_52 ?_ (sx_out G (fun z hz => (hxt z hz).elim))
  refine s_callV G (mJ2_add EN) q1278 q402 (sel_cons (r := (RJ2, TJ2, 3)) (by decide) rfl q403 (sel_nil)) q82 q404 nmk_64 (rm_of hF (Nat.le_of_ble_eq_true rfl) (Nat.le_of_ble_eq_true rfl)) dX11_alone_55 ?_ (sx_out G (fun z hz => (hxt z hz).elim))
  refine s_pop G.b dX11_alone_58 ?_
  refine s_iinc (by decide) G.b (by rw [G.nl]; decide) (fun _ _ => by rw [hC]) dX11_alone_59 ?_
  exact s_goto (tgt := 2) G.b dX11_alone_62 (by decide) h2
set_option maxHeartbeats 4000000 in
theorem tX11_alone_45 {x : CX} {E : Nat → Value} {Q : Rs → HS → Prop} {X2 : Ct} (EN : EX x E) (G : Gd x cX11_alone "ChantRules$Composed" yX11_alone 3 (Option.none : Option Jvm.ClassFile.FieldType) Q) (hF : x.1.2.2.2.frames = 14 ∧ x.1.2.2.2.locals = 331) (hC : x.2.2.2.2.2 = (fun _ => false)) (hxt : (∀ z ∈ x.2.2.1.2.1.exceptionTable.toList, False)) (h2 : Snd x 2 X2) : Snd x 45 (bX11_alone_45 E Q X2) := by
  unfold bX11_alone_45
  refine s_iconst (by decide) G.b dX11_alone_45 ?_
  refine s_aload_n rfl G.b dX11_alone_46 ?_
  exact (s_vsel (s_callF (r0 := (RX7, TX7, 4)) (w := ⟨"ChantRules$Arc", "weight", "()I"⟩) (by decide) rfl G (mX7_weight EN) q1276 (va_Fw.moved (by decide +kernel) G.warm.alike ⟨(EN.nw q770 rfl), (EN.nw q769 rfl), (EN.nw q774 rfl), (EN.nw q772 rfl), (EN.nw q287 rfl)⟩) q771 q773 q99 q775 nmk_17 (rm_of hF (Nat.le_of_ble_eq_true rfl) (Nat.le_of_ble_eq_true rfl)) dX11_alone_47 (tX11_alone_52 EN G hF hC hxt h2) (sx_out G (fun z hz => (hxt z hz).elim)) ) (s_callF (r0 := (RX8, TX8, 5)) (w := ⟨"ChantRules$Arc", "weight", "()I"⟩) (by decide) rfl G (mX8_weight EN) q1276 (va_Fw.moved (by decide +kernel) G.warm.alike ⟨(EN.nw q770 rfl), (EN.nw q769 rfl), (EN.nw q779 rfl), (EN.nw q777 rfl), (EN.nw q293 rfl)⟩) q776 q778 q100 q780 nmk_17 (rm_of hF (Nat.le_of_ble_eq_true rfl) (Nat.le_of_ble_eq_true rfl)) dX11_alone_47 (tX11_alone_52 EN G hF hC hxt h2) (sx_out G (fun z hz => (hxt z hz).elim)) ))
set_option maxHeartbeats 4000000 in
theorem tX11_alone_35 {x : CX} {E : Nat → Value} {Q : Rs → HS → Prop} {X2 : Ct} (EN : EX x E) (G : Gd x cX11_alone "ChantRules$Composed" yX11_alone 3 (Option.none : Option Jvm.ClassFile.FieldType) Q) (hF : x.1.2.2.2.frames = 14 ∧ x.1.2.2.2.locals = 331) (hC : x.2.2.2.2.2 = (fun _ => false)) (hxt : (∀ z ∈ x.2.2.1.2.1.exceptionTable.toList, False)) (h2 : Snd x 2 X2) : Snd x 35 (bX11_alone_35 E Q X2) := by
  unfold bX11_alone_35
  refine s_iload_n rfl G.b dX11_alone_35 ?_
  refine s_callV G (mX11_pair EN) q1267 q1269 (sel_cons (r := (RX11, TX11, 3)) (by decide) rfl qs13 (sel_nil)) q106 q1270 nmk_95 (rm_of hF (Nat.le_of_ble_eq_true rfl) (Nat.le_of_ble_eq_true rfl)) dX11_alone_36 ?_ (sx_out G (fun z hz => (hxt z hz).elim))
  refine s_aload_n rfl G.b dX11_alone_39 ?_
  exact (s_vsel (s_callF (r0 := (RX7, TX7, 4)) (w := ⟨"ChantRules$Arc", "hears", "()I"⟩) (by decide) rfl G (mX7_hears EN) q1274 (va_Fw.moved (by decide +kernel) G.warm.alike ⟨(EN.nw q286 rfl), (EN.nw q285 rfl), (EN.nw q291 rfl), (EN.nw q289 rfl), (EN.nw q287 rfl)⟩) q288 q290 q99 q292 nmk_20 (rm_of hF (Nat.le_of_ble_eq_true rfl) (Nat.le_of_ble_eq_true rfl)) dX11_alone_40 (tX11_alone_45 EN G hF hC hxt h2) (sx_out G (fun z hz => (hxt z hz).elim)) ) (s_callF (r0 := (RX8, TX8, 5)) (w := ⟨"ChantRules$Arc", "hears", "()I"⟩) (by decide) rfl G (mX8_hears EN) q1274 (va_Fw.moved (by decide +kernel) G.warm.alike ⟨(EN.nw q286 rfl), (EN.nw q285 rfl), (EN.nw q297 rfl), (EN.nw q295 rfl), (EN.nw q293 rfl)⟩) q294 q296 q100 q298 nmk_20 (rm_of hF (Nat.le_of_ble_eq_true rfl) (Nat.le_of_ble_eq_true rfl)) dX11_alone_40 (tX11_alone_45 EN G hF hC hxt h2) (sx_out G (fun z hz => (hxt z hz).elim)) ))
set_option maxHeartbeats 4000000 in
theorem tX11_alone_24 {x : CX} {E : Nat → Value} {Q : Rs → HS → Prop} {X2 : Ct} (EN : EX x E) (G : Gd x cX11_alone "ChantRules$Composed" yX11_alone 3 (Option.none : Option Jvm.ClassFile.FieldType) Q) (hF : x.1.2.2.2.frames = 14 ∧ x.1.2.2.2.locals = 331) (hC : x.2.2.2.2.2 = (fun _ => false)) (hxt : (∀ z ∈ x.2.2.1.2.1.exceptionTable.toList, False)) (h2 : Snd x 2 X2) : Snd x 24 (bX11_alone_24 E Q X2) := by
  unfold bX11_alone_24
  refine s_iload_n rfl G.b dX11_alone_24 ?_
  refine s_callV G (mX11_pair EN) q1267 q1269 (sel_cons (r := (RX11, TX11, 3)) (by decide) rfl qs13 (sel_nil)) q106 q1270 nmk_95 (rm_of hF (Nat.le_of_ble_eq_true rfl) (Nat.le_of_ble_eq_true rfl)) dX11_alone_25 ?_ (sx_out G (fun z hz => (hxt z hz).elim))
  refine s_aload_n rfl G.b dX11_alone_28 ?_
  refine s_aload_n rfl G.b dX11_alone_29 ?_
  exact (s_vsel (s_callF (r0 := (RX7, TX7, 4)) (w := ⟨"ChantRules$Arc", "to", "()I"⟩) (by decide) rfl G (mX7_to EN) q1272 (va_Fw.moved (by decide +kernel) G.warm.alike ⟨(EN.nw q726 rfl), (EN.nw q725 rfl), (EN.nw q730 rfl), (EN.nw q728 rfl), (EN.nw q287 rfl)⟩) q727 q729 q99 q731 nmk_69 (rm_of hF (Nat.le_of_ble_eq_true rfl) (Nat.le_of_ble_eq_true rfl)) dX11_alone_30 (tX11_alone_35 EN G hF hC hxt h2) (sx_out G (fun z hz => (hxt z hz).elim)) ) (s_callF (r0 := (RX8, TX8, 5)) (w := ⟨"ChantRules$Arc", "to", "()I"⟩) (by decide) rfl G (mX8_to EN) q1272 (va_Fw.moved (by decide +kernel) G.warm.alike ⟨(EN.nw q726 rfl), (EN.nw q725 rfl), (EN.nw q735 rfl), (EN.nw q733 rfl), (EN.nw q293 rfl)⟩) q732 q734 q100 q736 nmk_69 (rm_of hF (Nat.le_of_ble_eq_true rfl) (Nat.le_of_ble_eq_true rfl)) dX11_alone_30 (tX11_alone_35 EN G hF hC hxt h2) (sx_out G (fun z hz => (hxt z hz).elim)) ))
set_option maxHeartbeats 4000000 in
theorem tX11_alone_2 {x : CX} {E : Nat → Value} {Q : Rs → HS → Prop} {X2 : Ct} (EN : EX x E) (G : Gd x cX11_alone "ChantRules$Composed" yX11_alone 3 (Option.none : Option Jvm.ClassFile.FieldType) Q) (hF : x.1.2.2.2.frames = 14 ∧ x.1.2.2.2.locals = 331) (hC : x.2.2.2.2.2 = (fun _ => false)) (hxt : (∀ z ∈ x.2.2.1.2.1.exceptionTable.toList, False)) (h2 : Snd x 2 X2) : Snd x 2 (bX11_alone_2 E Q X2) := by
  unfold bX11_alone_2
  refine s_iload_n rfl G.b dX11_alone_2 ?_
  refine s_aload_n rfl G.b dX11_alone_3 ?_
  refine s_getf G.b G.ow G.kn (G.hts _ q1289) (fun _ h => h) fa_46 dX11_alone_4 ?_
  refine s_getfN G.b G.ow G.kn (va_Nw.use rfl (va_Nw.warmF G.warm (EN.nw q181 rfl))) (fun _ h => h) fa_4 dX11_alone_7 ?_
  refine s_icmpge (tgt := 65) G.b dX11_alone_10 (by decide) (tX11_alone_65 EN G hF hC hxt h2) ?_
  refine s_aload_n rfl G.b dX11_alone_13 ?_
  refine s_getf G.b G.ow G.kn (G.hts _ q1290) (fun _ h => h) fa_47 dX11_alone_14 ?_
  refine s_aload_n rfl G.b dX11_alone_17 ?_
  refine s_aload_n rfl G.b dX11_alone_18 ?_
  exact (s_vsel (s_callF (r0 := (RX7, TX7, 4)) (w := ⟨"ChantRules$Arc", "from", "()I"⟩) (by decide) rfl G (mX7_from EN) q1266 (va_Fw.moved (by decide +kernel) G.warm.alike ⟨(EN.nw q712 rfl), (EN.nw q711 rfl), (EN.nw q716 rfl), (EN.nw q714 rfl), (EN.nw q287 rfl)⟩) q713 q715 q99 q717 nmk_70 (rm_of hF (Nat.le_of_ble_eq_true rfl) (Nat.le_of_ble_eq_true rfl)) dX11_alone_19 (tX11_alone_24 EN G hF hC hxt h2) (sx_out G (fun z hz => (hxt z hz).elim)) ) (s_callF (r0 := (RX8, TX8, 5)) (w := ⟨"ChantRules$Arc", "from", "()I"⟩) (by decide) rfl G (mX8_from EN) q1266 (va_Fw.moved (by decide +kernel) G.warm.alike ⟨(EN.nw q712 rfl), (EN.nw q711 rfl), (EN.nw q721 rfl), (EN.nw q719 rfl), (EN.nw q293 rfl)⟩) q718 q720 q100 q722 nmk_70 (rm_of hF (Nat.le_of_ble_eq_true rfl) (Nat.le_of_ble_eq_true rfl)) dX11_alone_19 (tX11_alone_24 EN G hF hC hxt h2) (sx_out G (fun z hz => (hxt z hz).elim)) ))
set_option maxHeartbeats 4000000 in
theorem tX11_alone_0 {x : CX} {E : Nat → Value} {Q : Rs → HS → Prop} {X2 : Ct} (EN : EX x E) (G : Gd x cX11_alone "ChantRules$Composed" yX11_alone 3 (Option.none : Option Jvm.ClassFile.FieldType) Q) (hF : x.1.2.2.2.frames = 14 ∧ x.1.2.2.2.locals = 331) (hC : x.2.2.2.2.2 = (fun _ => false)) (hxt : (∀ z ∈ x.2.2.1.2.1.exceptionTable.toList, False)) (h2 : Snd x 2 X2) : Snd x 0 (bX11_alone_0 E Q X2) := by
  unfold bX11_alone_0
  refine s_iconst (by decide) G.b dX11_alone_0 ?_
  refine s_istore_n rfl G.b (by rw [G.nl]; decide) (fun _ _ => by rw [hC]) dX11_alone_1 ?_
  exact h2
set_option maxHeartbeats 4000000 in
theorem mX11_alone {l : Launch} {D : DE} {s0 : State} {E : Nat → Value} (EN : EV l D s0 E) : rMet l D s0 yX11_alone (ws_ yX11_alone cX11_alone 3 (Option.none : Option Jvm.ClassFile.FieldType)) 14 331 (wX11_alone E) := by
  refine body_met (fun _ => false) EN.kn (fun w h => h) (by decide +kernel) rfl (fun av h Q hw => ?_) ?_
  · unfold wX11_alone at hw
    split at hw
    · exact Nat.le_of_ble_eq_true rfl
    · exact hw.elim
  · intro p e s m below meth c av h Q hxt G hw
    unfold wX11_alone at hw
    split at hw
    · exact tX11_alone_0 EN G ⟨rfl, rfl⟩ rfl hxt (fun _ _ _ h => h) _ _ _ (hw (AW _ 2) (tX11_alone_2 EN G ⟨rfl, rfl⟩ rfl hxt (fun _ _ _ h => h)))
    · exact hw.elim
/-! ChantRules$Composed.with(LChantRules$Arc;LChantRules$Test;)V (X11_with) -/
def bX11_with_117 (E : Nat → Value) (Q : Rs → HS → Prop) (X11 : Ct) : Ct :=
  o_return Q
def bX11_with_114 (E : Nat → Value) (Q : Rs → HS → Prop) (X11 : Ct) : Ct :=
  X11
def bX11_with_106 (E : Nat → Value) (Q : Rs → HS → Prop) (X11 : Ct) : Ct :=
  o_iadd <|
  o_call 5 (wX0_arcOf E) (x_out Q) <|
  o_callV [15] 2 (wJ2_add E) (x_out Q) <|
  o_pop <|
  (bX11_with_114 E Q X11)
def bX11_with_99 (E : Nat → Value) (Q : Rs → HS → Prop) (X11 : Ct) : Ct :=
  o_aload 4 <|
  o_vsel 1 [10] (o_callV [10] 1 (wX7_weight E) (x_out Q) (bX11_with_106 E Q X11)) (o_callV [11] 1 (wX8_weight E) (x_out Q) (bX11_with_106 E Q X11))
def bX11_with_93 (E : Nat → Value) (Q : Rs → HS → Prop) (X11 : Ct) : Ct :=
  o_aload 1 <|
  o_vsel 1 [10] (o_callV [10] 1 (wX7_weight E) (x_out Q) (bX11_with_99 E Q X11)) (o_callV [11] 1 (wX8_weight E) (x_out Q) (bX11_with_99 E Q X11))
def bX11_with_86 (E : Nat → Value) (Q : Rs → HS → Prop) (X11 : Ct) : Ct :=
  o_aload 4 <|
  o_vsel 1 [10] (o_callV [10] 1 (wX7_sings E) (x_out Q) (bX11_with_93 E Q X11)) (o_callV [11] 1 (wX8_sings E) (x_out Q) (bX11_with_93 E Q X11))
def bX11_with_77 (E : Nat → Value) (Q : Rs → HS → Prop) (X11 : Ct) : Ct :=
  o_callV [4] 3 (wX11_pair E) (x_out Q) <|
  o_aload 1 <|
  o_vsel 1 [10] (o_callV [10] 1 (wX7_hears E) (x_out Q) (bX11_with_86 E Q X11)) (o_callV [11] 1 (wX8_hears E) (x_out Q) (bX11_with_86 E Q X11))
def bX11_with_70 (E : Nat → Value) (Q : Rs → HS → Prop) (X11 : Ct) : Ct :=
  o_aload 4 <|
  o_vsel 1 [10] (o_callV [10] 1 (wX7_to E) (x_out Q) (bX11_with_77 E Q X11)) (o_callV [11] 1 (wX8_to E) (x_out Q) (bX11_with_77 E Q X11))
def bX11_with_60 (E : Nat → Value) (Q : Rs → HS → Prop) (X11 : Ct) : Ct :=
  o_callV [4] 3 (wX11_pair E) (x_out Q) <|
  o_aload 0 <|
  o_aload 1 <|
  o_vsel 1 [10] (o_callV [10] 1 (wX7_to E) (x_out Q) (bX11_with_70 E Q X11)) (o_callV [11] 1 (wX8_to E) (x_out Q) (bX11_with_70 E Q X11))
def bX11_with_53 (E : Nat → Value) (Q : Rs → HS → Prop) (X11 : Ct) : Ct :=
  o_aload 4 <|
  o_vsel 1 [10] (o_callV [10] 1 (wX7_from E) (x_out Q) (bX11_with_60 E Q X11)) (o_callV [11] 1 (wX8_from E) (x_out Q) (bX11_with_60 E Q X11))
def bX11_with_11 (E : Nat → Value) (Q : Rs → HS → Prop) (X11 : Ct) : Ct :=
  o_aload 3 <|
  o_callV [20] 1 (wJ9_hasNext E) (x_out Q) <|
  o_ifeq (bX11_with_117 E Q X11) <|
  o_aload 3 <|
  o_callV [20] 1 (wJ9_next E) (x_out Q) <|
  o_cast [10, 11] <|
  o_astore 4 <|
  o_aload 2 <|
  o_aload 4 <|
  o_callLam (wX0_lambda_new_0 E) (x_out Q) <|
  o_ifeq (bX11_with_114 E Q X11) <|
  o_aload 0 <|
  o_getf [4] 2 <|
  o_aload 0 <|
  o_aload 1 <|
  o_vsel 1 [10] (o_callV [10] 1 (wX7_from E) (x_out Q) (bX11_with_53 E Q X11)) (o_callV [11] 1 (wX8_from E) (x_out Q) (bX11_with_53 E Q X11))
def bX11_with_0 (E : Nat → Value) (Q : Rs → HS → Prop) (X11 : Ct) : Ct :=
  o_aload 0 <|
  o_getf [4] 1 <|
  o_getf [2] 0 <|
  o_callV [15] 1 (wJ2_iterator E) (x_out Q) <|
  o_astore 3 <|
  X11
def wX11_with (E : Nat → Value) : Wp := fun av h Q => match av with
  | [a0, a1, a2] => ∀ X11 : Ct, (∀ ls st h, bX11_with_11 E Q X11 ls st h → X11 ls st h) → bX11_with_0 E Q X11 [a0, a1, a2, jk, jk] [] h
  | _ => False
set_option maxHeartbeats 4000000 in
theorem tX11_with_117 {x : CX} {E : Nat → Value} {Q : Rs → HS → Prop} {X11 : Ct} (EN : EX x E) (G : Gd x cX11_with "ChantRules$Composed" yX11_with 5 (Option.none : Option Jvm.ClassFile.FieldType) Q) (hF : x.1.2.2.2.frames = 14 ∧ x.1.2.2.2.locals = 331) (hC : x.2.2.2.2.2 = (fun _ => false)) (hxt : (∀ z ∈ x.2.2.1.2.1.exceptionTable.toList, False)) (h11 : Snd x 11 X11) : Snd x 117 (bX11_with_117 E Q X11) := by
  unfold bX11_with_117
  exact s_return G dX11_with_117
set_option maxHeartbeats 4000000 in
theorem tX11_with_114 {x : CX} {E : Nat → Value} {Q : Rs → HS → Prop} {X11 : Ct} (EN : EX x E) (G : Gd x cX11_with "ChantRules$Composed" yX11_with 5 (Option.none : Option Jvm.ClassFile.FieldType) Q) (hF : x.1.2.2.2.frames = 14 ∧ x.1.2.2.2.locals = 331) (hC : x.2.2.2.2.2 = (fun _ => false)) (hxt : (∀ z ∈ x.2.2.1.2.1.exceptionTable.toList, False)) (h11 : Snd x 11 X11) : Snd x 114 (bX11_with_114 E Q X11) := by
  unfold bX11_with_114
  exact s_goto (tgt := 11) G.b dX11_with_114 (by decide) h11
set_option maxHeartbeats 4000000 in
theorem tX11_with_106 {x : CX} {E : Nat → Value} {Q : Rs → HS → Prop} {X11 : Ct} (EN : EX x E) (G : Gd x cX11_with "ChantRules$Composed" yX11_with 5 (Option.none : Option Jvm.ClassFile.FieldType) Q) (hF : x.1.2.2.2.frames = 14 ∧ x.1.2.2.2.locals = 331) (hC : x.2.2.2.2.2 = (fun _ => false)) (hxt : (∀ z ∈ x.2.2.1.2.1.exceptionTable.toList, False)) (h11 : Snd x 11 X11) : Snd x 106 (bX11_with_106 E Q X11) := by
  unfold bX11_with_106
  refine s_iadd G.b dX11_with_106 ?_
  refine s_callSN G (mX0_arcOf EN) (va_Nw.use rfl (va_Nw.warmM G.warm (EN.nw q1277 rfl))) q631 q76 q632 nmk_83 (rm_of hF (Nat.le_of_ble_eq_true rfl) (Nat.le_of_ble_eq_true rfl)) dX11_with_107 ?_ (sx_out G (fun z hz => (hxt z hz).elim))
  refine s_callV G (mJ2_add EN) q1278 q402 (sel_cons (r := (RJ2, TJ2, 3)) (by decide) rfl q403 (sel_nil)) q82 q404 nmk_64 (rm_of hF (Nat.le_of_ble_eq_true rfl) (Nat.le_of_ble_eq_true rfl)) dX11_with_110 ?_ (sx_out G (fun z hz => (hxt z hz).elim))
  refine s_pop G.b dX11_with_113 ?_
  exact (tX11_with_114 EN G hF hC hxt h11)
set_option maxHeartbeats 4000000 in
theorem tX11_with_99 {x : CX} {E : Nat → Value} {Q : Rs → HS → Prop} {X11 : Ct} (EN : EX x E) (G : Gd x cX11_with "ChantRules$Composed" yX11_with 5 (Option.none : Option Jvm.ClassFile.FieldType) Q) (hF : x.1.2.2.2.frames = 14 ∧ x.1.2.2.2.locals = 331) (hC : x.2.2.2.2.2 = (fun _ => false)) (hxt : (∀ z ∈ x.2.2.1.2.1.exceptionTable.toList, False)) (h11 : Snd x 11 X11) : Snd x 99 (bX11_with_99 E Q X11) := by
  unfold bX11_with_99
  refine s_aload G.b dX11_with_99 ?_
  exact (s_vsel (s_callF (r0 := (RX7, TX7, 4)) (w := ⟨"ChantRules$Arc", "weight", "()I"⟩) (by decide) rfl G (mX7_weight EN) q1276 (va_Fw.moved (by decide +kernel) G.warm.alike ⟨(EN.nw q770 rfl), (EN.nw q769 rfl), (EN.nw q774 rfl), (EN.nw q772 rfl), (EN.nw q287 rfl)⟩) q771 q773 q99 q775 nmk_17 (rm_of hF (Nat.le_of_ble_eq_true rfl) (Nat.le_of_ble_eq_true rfl)) dX11_with_101 (tX11_with_106 EN G hF hC hxt h11) (sx_out G (fun z hz => (hxt z hz).elim)) ) (s_callF (r0 := (RX8, TX8, 5)) (w := ⟨"ChantRules$Arc", "weight", "()I"⟩) (by decide) rfl G (mX8_weight EN) q1276 (va_Fw.moved (by decide +kernel) G.warm.alike ⟨(EN.nw q770 rfl), (EN.nw q769 rfl), (EN.nw q779 rfl), (EN.nw q777 rfl), (EN.nw q293 rfl)⟩) q776 q778 q100 q780 nmk_17 (rm_of hF (Nat.le_of_ble_eq_true rfl) (Nat.le_of_ble_eq_true rfl)) dX11_with_101 (tX11_with_106 EN G hF hC hxt h11) (sx_out G (fun z hz => (hxt z hz).elim)) ))
set_option maxHeartbeats 4000000 in
theorem tX11_with_93 {x : CX} {E : Nat → Value} {Q : Rs → HS → Prop} {X11 : Ct} (EN : EX x E) (G : Gd x cX11_with "ChantRules$Composed" yX11_with 5 (Option.none : Option Jvm.ClassFile.FieldType) Q) (hF : x.1.2.2.2.frames = 14 ∧ x.1.2.2.2.locals = 331) (hC : x.2.2.2.2.2 = (fun _ => false)) (hxt : (∀ z ∈ x.2.2.1.2.1.exceptionTable.toList, False)) (h11 : Snd x 11 X11) : Snd x 93 (bX11_with_93 E Q X11) := by
  unfold bX11_with_93
  refine s_aload_n rfl G.b dX11_with_93 ?_
  exact (s_vsel (s_callF (r0 := (RX7, TX7, 4)) (w := ⟨"ChantRules$Arc", "weight", "()I"⟩) (by decide) rfl G (mX7_weight EN) q1276 (va_Fw.moved (by decide +kernel) G.warm.alike ⟨(EN.nw q770 rfl), (EN.nw q769 rfl), (EN.nw q774 rfl), (EN.nw q772 rfl), (EN.nw q287 rfl)⟩) q771 q773 q99 q775 nmk_17 (rm_of hF (Nat.le_of_ble_eq_true rfl) (Nat.le_of_ble_eq_true rfl)) dX11_with_94 (tX11_with_99 EN G hF hC hxt h11) (sx_out G (fun z hz => (hxt z hz).elim)) ) (s_callF (r0 := (RX8, TX8, 5)) (w := ⟨"ChantRules$Arc", "weight", "()I"⟩) (by decide) rfl G (mX8_weight EN) q1276 (va_Fw.moved (by decide +kernel) G.warm.alike ⟨(EN.nw q770 rfl), (EN.nw q769 rfl), (EN.nw q779 rfl), (EN.nw q777 rfl), (EN.nw q293 rfl)⟩) q776 q778 q100 q780 nmk_17 (rm_of hF (Nat.le_of_ble_eq_true rfl) (Nat.le_of_ble_eq_true rfl)) dX11_with_94 (tX11_with_99 EN G hF hC hxt h11) (sx_out G (fun z hz => (hxt z hz).elim)) ))
set_option maxHeartbeats 4000000 in
theorem tX11_with_86 {x : CX} {E : Nat → Value} {Q : Rs → HS → Prop} {X11 : Ct} (EN : EX x E) (G : Gd x cX11_with "ChantRules$Composed" yX11_with 5 (Option.none : Option Jvm.ClassFile.FieldType) Q) (hF : x.1.2.2.2.frames = 14 ∧ x.1.2.2.2.locals = 331) (hC : x.2.2.2.2.2 = (fun _ => false)) (hxt : (∀ z ∈ x.2.2.1.2.1.exceptionTable.toList, False)) (h11 : Snd x 11 X11) : Snd x 86 (bX11_with_86 E Q X11) := by
  unfold bX11_with_86
  refine s_aload G.b dX11_with_86 ?_
  exact (s_vsel (s_callF (r0 := (RX7, TX7, 4)) (w := ⟨"ChantRules$Arc", "sings", "()I"⟩) (by decide) rfl G (mX7_sings EN) q1260 (va_Fw.moved (by decide +kernel) G.warm.alike ⟨(EN.nw q740 rfl), (EN.nw q739 rfl), (EN.nw q744 rfl), (EN.nw q742 rfl), (EN.nw q287 rfl)⟩) q741 q743 q99 q745 nmk_68 (rm_of hF (Nat.le_of_ble_eq_true rfl) (Nat.le_of_ble_eq_true rfl)) dX11_with_88 (tX11_with_93 EN G hF hC hxt h11) (sx_out G (fun z hz => (hxt z hz).elim)) ) (s_callF (r0 := (RX8, TX8, 5)) (w := ⟨"ChantRules$Arc", "sings", "()I"⟩) (by decide) rfl G (mX8_sings EN) q1260 (va_Fw.moved (by decide +kernel) G.warm.alike ⟨(EN.nw q740 rfl), (EN.nw q739 rfl), (EN.nw q749 rfl), (EN.nw q747 rfl), (EN.nw q293 rfl)⟩) q746 q748 q100 q750 nmk_68 (rm_of hF (Nat.le_of_ble_eq_true rfl) (Nat.le_of_ble_eq_true rfl)) dX11_with_88 (tX11_with_93 EN G hF hC hxt h11) (sx_out G (fun z hz => (hxt z hz).elim)) ))
set_option maxHeartbeats 4000000 in
theorem tX11_with_77 {x : CX} {E : Nat → Value} {Q : Rs → HS → Prop} {X11 : Ct} (EN : EX x E) (G : Gd x cX11_with "ChantRules$Composed" yX11_with 5 (Option.none : Option Jvm.ClassFile.FieldType) Q) (hF : x.1.2.2.2.frames = 14 ∧ x.1.2.2.2.locals = 331) (hC : x.2.2.2.2.2 = (fun _ => false)) (hxt : (∀ z ∈ x.2.2.1.2.1.exceptionTable.toList, False)) (h11 : Snd x 11 X11) : Snd x 77 (bX11_with_77 E Q X11) := by
  unfold bX11_with_77
  refine s_callV G (mX11_pair EN) q1267 q1269 (sel_cons (r := (RX11, TX11, 3)) (by decide) rfl qs13 (sel_nil)) q106 q1270 nmk_95 (rm_of hF (Nat.le_of_ble_eq_true rfl) (Nat.le_of_ble_eq_true rfl)) dX11_with_77 ?_ (sx_out G (fun z hz => (hxt z hz).elim))
  refine s_aload_n rfl G.b dX11_with_80 ?_
  exact (s_vsel (s_callF (r0 := (RX7, TX7, 4)) (w := ⟨"ChantRules$Arc", "hears", "()I"⟩) (by decide) rfl G (mX7_hears EN) q1274 (va_Fw.moved (by decide +kernel) G.warm.alike ⟨(EN.nw q286 rfl), (EN.nw q285 rfl), (EN.nw q291 rfl), (EN.nw q289 rfl), (EN.nw q287 rfl)⟩) q288 q290 q99 q292 nmk_20 (rm_of hF (Nat.le_of_ble_eq_true rfl) (Nat.le_of_ble_eq_true rfl)) dX11_with_81 (tX11_with_86 EN G hF hC hxt h11) (sx_out G (fun z hz => (hxt z hz).elim)) ) (s_callF (r0 := (RX8, TX8, 5)) (w := ⟨"ChantRules$Arc", "hears", "()I"⟩) (by decide) rfl G (mX8_hears EN) q1274 (va_Fw.moved (by decide +kernel) G.warm.alike ⟨(EN.nw q286 rfl), (EN.nw q285 rfl), (EN.nw q297 rfl), (EN.nw q295 rfl), (EN.nw q293 rfl)⟩) q294 q296 q100 q298 nmk_20 (rm_of hF (Nat.le_of_ble_eq_true rfl) (Nat.le_of_ble_eq_true rfl)) dX11_with_81 (tX11_with_86 EN G hF hC hxt h11) (sx_out G (fun z hz => (hxt z hz).elim)) ))
set_option maxHeartbeats 4000000 in
theorem tX11_with_70 {x : CX} {E : Nat → Value} {Q : Rs → HS → Prop} {X11 : Ct} (EN : EX x E) (G : Gd x cX11_with "ChantRules$Composed" yX11_with 5 (Option.none : Option Jvm.ClassFile.FieldType) Q) (hF : x.1.2.2.2.frames = 14 ∧ x.1.2.2.2.locals = 331) (hC : x.2.2.2.2.2 = (fun _ => false)) (hxt : (∀ z ∈ x.2.2.1.2.1.exceptionTable.toList, False)) (h11 : Snd x 11 X11) : Snd x 70 (bX11_with_70 E Q X11) := by
  unfold bX11_with_70
  refine s_aload G.b dX11_with_70 ?_
  exact (s_vsel (s_callF (r0 := (RX7, TX7, 4)) (w := ⟨"ChantRules$Arc", "to", "()I"⟩) (by decide) rfl G (mX7_to EN) q1272 (va_Fw.moved (by decide +kernel) G.warm.alike ⟨(EN.nw q726 rfl), (EN.nw q725 rfl), (EN.nw q730 rfl), (EN.nw q728 rfl), (EN.nw q287 rfl)⟩) q727 q729 q99 q731 nmk_69 (rm_of hF (Nat.le_of_ble_eq_true rfl) (Nat.le_of_ble_eq_true rfl)) dX11_with_72 (tX11_with_77 EN G hF hC hxt h11) (sx_out G (fun z hz => (hxt z hz).elim)) ) (s_callF (r0 := (RX8, TX8, 5)) (w := ⟨"ChantRules$Arc", "to", "()I"⟩) (by decide) rfl G (mX8_to EN) q1272 (va_Fw.moved (by decide +kernel) G.warm.alike ⟨(EN.nw q726 rfl), (EN.nw q725 rfl), (EN.nw q735 rfl), (EN.nw q733 rfl), (EN.nw q293 rfl)⟩) q732 q734 q100 q736 nmk_69 (rm_of hF (Nat.le_of_ble_eq_true rfl) (Nat.le_of_ble_eq_true rfl)) dX11_with_72 (tX11_with_77 EN G hF hC hxt h11) (sx_out G (fun z hz => (hxt z hz).elim)) ))
set_option maxHeartbeats 4000000 in
theorem tX11_with_60 {x : CX} {E : Nat → Value} {Q : Rs → HS → Prop} {X11 : Ct} (EN : EX x E) (G : Gd x cX11_with "ChantRules$Composed" yX11_with 5 (Option.none : Option Jvm.ClassFile.FieldType) Q) (hF : x.1.2.2.2.frames = 14 ∧ x.1.2.2.2.locals = 331) (hC : x.2.2.2.2.2 = (fun _ => false)) (hxt : (∀ z ∈ x.2.2.1.2.1.exceptionTable.toList, False)) (h11 : Snd x 11 X11) : Snd x 60 (bX11_with_60 E Q X11) := by
  unfold bX11_with_60
  refine s_callV G (mX11_pair EN) q1267 q1269 (sel_cons (r := (RX11, TX11, 3)) (by decide) rfl qs13 (sel_nil)) q106 q1270 nmk_95 (rm_of hF (Nat.le_of_ble_eq_true rfl) (Nat.le_of_ble_eq_true rfl)) dX11_with_60 ?_ (sx_out G (fun z hz => (hxt z hz).elim))
  refine s_aload_n rfl G.b dX11_with_63 ?_
  refine s_aload_n rfl G.b dX11_with_64 ?_
  exact (s_vsel (s_callF (r0 := (RX7, TX7, 4)) (w := ⟨"ChantRules$Arc", "to", "()I"⟩) (by decide) rfl G (mX7_to EN) q1272 (va_Fw.moved (by decide +kernel) G.warm.alike ⟨(EN.nw q726 rfl), (EN.nw q725 rfl), (EN.nw q730 rfl), (EN.nw q728 rfl), (EN.nw q287 rfl)⟩) q727 q729 q99 q731 nmk_69 (rm_of hF (Nat.le_of_ble_eq_true rfl) (Nat.le_of_ble_eq_true rfl)) dX11_with_65 (tX11_with_70 EN G hF hC hxt h11) (sx_out G (fun z hz => (hxt z hz).elim)) ) (s_callF (r0 := (RX8, TX8, 5)) (w := ⟨"ChantRules$Arc", "to", "()I"⟩) (by decide) rfl G (mX8_to EN) q1272 (va_Fw.moved (by decide +kernel) G.warm.alike ⟨(EN.nw q726 rfl), (EN.nw q725 rfl), (EN.nw q735 rfl), (EN.nw q733 rfl), (EN.nw q293 rfl)⟩) q732 q734 q100 q736 nmk_69 (rm_of hF (Nat.le_of_ble_eq_true rfl) (Nat.le_of_ble_eq_true rfl)) dX11_with_65 (tX11_with_70 EN G hF hC hxt h11) (sx_out G (fun z hz => (hxt z hz).elim)) ))
set_option maxHeartbeats 4000000 in
theorem tX11_with_53 {x : CX} {E : Nat → Value} {Q : Rs → HS → Prop} {X11 : Ct} (EN : EX x E) (G : Gd x cX11_with "ChantRules$Composed" yX11_with 5 (Option.none : Option Jvm.ClassFile.FieldType) Q) (hF : x.1.2.2.2.frames = 14 ∧ x.1.2.2.2.locals = 331) (hC : x.2.2.2.2.2 = (fun _ => false)) (hxt : (∀ z ∈ x.2.2.1.2.1.exceptionTable.toList, False)) (h11 : Snd x 11 X11) : Snd x 53 (bX11_with_53 E Q X11) := by
  unfold bX11_with_53
  refine s_aload G.b dX11_with_53 ?_
  exact (s_vsel (s_callF (r0 := (RX7, TX7, 4)) (w := ⟨"ChantRules$Arc", "from", "()I"⟩) (by decide) rfl G (mX7_from EN) q1266 (va_Fw.moved (by decide +kernel) G.warm.alike ⟨(EN.nw q712 rfl), (EN.nw q711 rfl), (EN.nw q716 rfl), (EN.nw q714 rfl), (EN.nw q287 rfl)⟩) q713 q715 q99 q717 nmk_70 (rm_of hF (Nat.le_of_ble_eq_true rfl) (Nat.le_of_ble_eq_true rfl)) dX11_with_55 (tX11_with_60 EN G hF hC hxt h11) (sx_out G (fun z hz => (hxt z hz).elim)) ) (s_callF (r0 := (RX8, TX8, 5)) (w := ⟨"ChantRules$Arc", "from", "()I"⟩) (by decide) rfl G (mX8_from EN) q1266 (va_Fw.moved (by decide +kernel) G.warm.alike ⟨(EN.nw q712 rfl), (EN.nw q711 rfl), (EN.nw q721 rfl), (EN.nw q719 rfl), (EN.nw q293 rfl)⟩) q718 q720 q100 q722 nmk_70 (rm_of hF (Nat.le_of_ble_eq_true rfl) (Nat.le_of_ble_eq_true rfl)) dX11_with_55 (tX11_with_60 EN G hF hC hxt h11) (sx_out G (fun z hz => (hxt z hz).elim)) ))
set_option maxHeartbeats 4000000 in
theorem tX11_with_11 {x : CX} {E : Nat → Value} {Q : Rs → HS → Prop} {X11 : Ct} (EN : EX x E) (G : Gd x cX11_with "ChantRules$Composed" yX11_with 5 (Option.none : Option Jvm.ClassFile.FieldType) Q) (hF : x.1.2.2.2.frames = 14 ∧ x.1.2.2.2.locals = 331) (hC : x.2.2.2.2.2 = (fun _ => false)) (hxt : (∀ z ∈ x.2.2.1.2.1.exceptionTable.toList, False)) (h11 : Snd x 11 X11) : Snd x 11 (bX11_with_11 E Q X11) := by
  unfold bX11_with_11
  refine s_aload_n rfl G.b dX11_with_11 ?_
  refine s_callF (r0 := (RJ9, TJ9, 4)) (w := ⟨"java/util/Iterator", "hasNext", "()Z"⟩) (by decide) rfl G (mJ9_hasNext EN) q1255 (va_Fw.moved (by decide +kernel) G.warm.alike ⟨(EN.nw q380 rfl), (EN.nw q379 rfl), (EN.nw q385 rfl), (EN.nw q383 rfl), (EN.nw q381 rfl)⟩) q382 q384 q91 q386 nmk_15 (rm_of hF (Nat.le_of_ble_eq_true rfl) (Nat.le_of_ble_eq_true rfl)) dX11_with_12 ?_ (sx_out G (fun z hz => (hxt z hz).elim))
  refine s_ifeq (tgt := 117) G.b dX11_with_17 (by decide) (tX11_with_117 EN G hF hC hxt h11) ?_
  refine s_aload_n rfl G.b dX11_with_20 ?_
  refine s_callF (r0 := (RJ9, TJ9, 4)) (w := ⟨"java/util/Iterator", "next", "()Ljava/lang/Object;"⟩) (by decide) rfl G (mJ9_next EN) q1257 (va_Fw.moved (by decide +kernel) G.warm.alike ⟨(EN.nw q390 rfl), (EN.nw q389 rfl), (EN.nw q394 rfl), (EN.nw q392 rfl), (EN.nw q381 rfl)⟩) q391 q393 q91 q395 nmk_16 (rm_of hF (Nat.le_of_ble_eq_true rfl) (Nat.le_of_ble_eq_true rfl)) dX11_with_21 ?_ (sx_out G (fun z hz => (hxt z hz).elim))
  refine s_cast G.b G.ow G.kn G.hts q1258 ct_1 dX11_with_26 ?_
  refine s_astore G.b (by rw [G.nl]; decide) (fun _ _ => by rw [hC]) dX11_with_29 ?_
  refine s_aload_n rfl G.b dX11_with_31 ?_
  refine s_aload G.b dX11_with_32 ?_
  refine s_callLam EN G (rm_of hF (Nat.le_of_ble_eq_true rfl) (Nat.le_of_ble_eq_true rfl)) lam_ty (mX0_lambda_new_0 EN) q1284 dX11_with_34 ?_ (sx_out G (fun z hz => (hxt z hz).elim))
  refine s_ifeq (tgt := 114) G.b dX11_with_39 (by decide) (tX11_with_114 EN G hF hC hxt h11) ?_
  refine s_aload_n rfl G.b dX11_with_42 ?_
  refine s_getf G.b G.ow G.kn (G.hts _ q1290) (fun _ h => h) fa_47 dX11_with_43 ?_
  refine s_aload_n rfl G.b dX11_with_46 ?_
  refine s_aload_n rfl G.b dX11_with_47 ?_
  exact (s_vsel (s_callF (r0 := (RX7, TX7, 4)) (w := ⟨"ChantRules$Arc", "from", "()I"⟩) (by decide) rfl G (mX7_from EN) q1266 (va_Fw.moved (by decide +kernel) G.warm.alike ⟨(EN.nw q712 rfl), (EN.nw q711 rfl), (EN.nw q716 rfl), (EN.nw q714 rfl), (EN.nw q287 rfl)⟩) q713 q715 q99 q717 nmk_70 (rm_of hF (Nat.le_of_ble_eq_true rfl) (Nat.le_of_ble_eq_true rfl)) dX11_with_48 (tX11_with_53 EN G hF hC hxt h11) (sx_out G (fun z hz => (hxt z hz).elim)) ) (s_callF (r0 := (RX8, TX8, 5)) (w := ⟨"ChantRules$Arc", "from", "()I"⟩) (by decide) rfl G (mX8_from EN) q1266 (va_Fw.moved (by decide +kernel) G.warm.alike ⟨(EN.nw q712 rfl), (EN.nw q711 rfl), (EN.nw q721 rfl), (EN.nw q719 rfl), (EN.nw q293 rfl)⟩) q718 q720 q100 q722 nmk_70 (rm_of hF (Nat.le_of_ble_eq_true rfl) (Nat.le_of_ble_eq_true rfl)) dX11_with_48 (tX11_with_53 EN G hF hC hxt h11) (sx_out G (fun z hz => (hxt z hz).elim)) ))
set_option maxHeartbeats 4000000 in
theorem tX11_with_0 {x : CX} {E : Nat → Value} {Q : Rs → HS → Prop} {X11 : Ct} (EN : EX x E) (G : Gd x cX11_with "ChantRules$Composed" yX11_with 5 (Option.none : Option Jvm.ClassFile.FieldType) Q) (hF : x.1.2.2.2.frames = 14 ∧ x.1.2.2.2.locals = 331) (hC : x.2.2.2.2.2 = (fun _ => false)) (hxt : (∀ z ∈ x.2.2.1.2.1.exceptionTable.toList, False)) (h11 : Snd x 11 X11) : Snd x 0 (bX11_with_0 E Q X11) := by
  unfold bX11_with_0
  refine s_aload_n rfl G.b dX11_with_0 ?_
  refine s_getf G.b G.ow G.kn (G.hts _ q1289) (fun _ h => h) fa_46 dX11_with_1 ?_
  refine s_getfN G.b G.ow G.kn (va_Nw.use rfl (va_Nw.warmF G.warm (EN.nw q176 rfl))) (fun _ h => h) fa_3 dX11_with_4 ?_
  refine s_callV G (mJ2_iterator EN) q1253 q355 (sel_cons (r := (RJ2, TJ2, 3)) (by decide) rfl q356 (sel_nil)) q82 q357 nmk_18 (rm_of hF (Nat.le_of_ble_eq_true rfl) (Nat.le_of_ble_eq_true rfl)) dX11_with_7 ?_ (sx_out G (fun z hz => (hxt z hz).elim))
  refine s_astore_n rfl G.b (by rw [G.nl]; decide) (fun _ _ => by rw [hC]) dX11_with_10 ?_
  exact h11
set_option maxHeartbeats 4000000 in
theorem mX11_with {l : Launch} {D : DE} {s0 : State} {E : Nat → Value} (EN : EV l D s0 E) : rMet l D s0 yX11_with (ws_ yX11_with cX11_with 5 (Option.none : Option Jvm.ClassFile.FieldType)) 14 331 (wX11_with E) := by
  refine body_met (fun _ => false) EN.kn (fun w h => h) (by decide +kernel) rfl (fun av h Q hw => ?_) ?_
  · unfold wX11_with at hw
    split at hw
    · exact Nat.le_of_ble_eq_true rfl
    · exact hw.elim
  · intro p e s m below meth c av h Q hxt G hw
    unfold wX11_with at hw
    split at hw
    · exact tX11_with_0 EN G ⟨rfl, rfl⟩ rfl hxt (fun _ _ _ h => h) _ _ _ (hw (AW _ 11) (tX11_with_11 EN G ⟨rfl, rfl⟩ rfl hxt (fun _ _ _ h => h)))
    · exact hw.elim
/-! ChantRules$Composed.<init>(LChantRules$Rule;LChantRules$Rule;[LChantRules$Test;)V (X11_init) -/
theorem ct_6y : ∀ c ∈ ([10] : List Nat), (c, "ChantRules$Breathed") ∈ ctab := by decide +kernel
theorem ct_6n : ∀ c ∈ ([11] : List Nat), (c, "ChantRules$Breathed") ∈ ntab ∧ c < 23 := by decide +kernel
theorem ct_7 : ∀ c ∈ [10], (c, "ChantRules$Breathed") ∈ ctab := by decide +kernel
theorem nmk_96 : nm_ok yX11_with 2 := ⟨by decide +kernel, by decide +kernel, by decide +kernel⟩
theorem nmk_97 : nm_ok yX11_alone 1 := ⟨by decide +kernel, by decide +kernel, by decide +kernel⟩
theorem fa_48 : fieldAt [4] 0 "ChantRules$Composed" "one" "LChantRules$Rule;" := fa_cons (r := (RX11, TX11, 3)) rfl (by decide) rfl rfl rfl (fa_nil)
def bX11_init_208 (E : Nat → Value) (Q : Rs → HS → Prop) (X37 X106 X146 : Ct) : Ct :=
  o_return Q
def bX11_init_205 (E : Nat → Value) (Q : Rs → HS → Prop) (X37 X106 X146 : Ct) : Ct :=
  X106
def bX11_init_146 (E : Nat → Value) (Q : Rs → HS → Prop) (X37 X106 X146 : Ct) : Ct :=
  o_iload 7 <|
  o_aload 1 <|
  o_getf [2] 2 <|
  o_icmpge (bX11_init_205 E Q X37 X106 X146) <|
  o_aload 0 <|
  o_getf [4] 2 <|
  o_aload 0 <|
  o_iload 7 <|
  o_aload 6 <|
  o_getf [10] 0 <|
  o_callV [4] 3 (wX11_pair E) (x_out Q) <|
  o_aload 0 <|
  o_iload 7 <|
  o_aload 6 <|
  o_getf [10] 1 <|
  o_callV [4] 3 (wX11_pair E) (x_out Q) <|
  o_push (.int 4) <|
  o_aload 6 <|
  o_getf [10] 2 <|
  o_aload 6 <|
  o_getf [10] 3 <|
  o_call 5 (wX0_arcOf E) (x_out Q) <|
  o_callV [15] 2 (wJ2_add E) (x_out Q) <|
  o_pop <|
  o_iinc 7 1 <|
  X146
def bX11_init_106 (E : Nat → Value) (Q : Rs → HS → Prop) (X37 X106 X146 : Ct) : Ct :=
  o_aload 4 <|
  o_callV [20] 1 (wJ9_hasNext E) (x_out Q) <|
  o_ifeq (bX11_init_208 E Q X37 X106 X146) <|
  o_aload 4 <|
  o_callV [20] 1 (wJ9_next E) (x_out Q) <|
  o_cast [10, 11] <|
  o_astore 5 <|
  o_aload 5 <|
  o_inst [10] [11] <|
  o_ifeq (bX11_init_205 E Q X37 X106 X146) <|
  o_aload 5 <|
  o_cast [10] <|
  o_astore 6 <|
  o_push (.int 0) <|
  o_istore 7 <|
  X146
def bX11_init_97 (E : Nat → Value) (Q : Rs → HS → Prop) (X37 X106 X146 : Ct) : Ct :=
  o_aload 2 <|
  o_getf [2] 0 <|
  o_callV [15] 1 (wJ2_iterator E) (x_out Q) <|
  o_astore 4 <|
  X106
def bX11_init_94 (E : Nat → Value) (Q : Rs → HS → Prop) (X37 X106 X146 : Ct) : Ct :=
  X37
def bX11_init_90 (E : Nat → Value) (Q : Rs → HS → Prop) (X37 X106 X146 : Ct) : Ct :=
  o_ald [103, 104, 105, 106, 107] <|
  o_callV [4] 3 (wX11_with E) (x_out Q) <|
  (bX11_init_94 E Q X37 X106 X146)
def bX11_init_79 (E : Nat → Value) (Q : Rs → HS → Prop) (X37 X106 X146 : Ct) : Ct :=
  o_aload 0 <|
  o_aload 5 <|
  o_aload 3 <|
  o_aload 5 <|
  o_vsel 1 [10] (o_callV [10] 1 (wX7_sings E) (x_out Q) (bX11_init_90 E Q X37 X106 X146)) (o_callV [11] 1 (wX8_sings E) (x_out Q) (bX11_init_90 E Q X37 X106 X146))
def bX11_init_66 (E : Nat → Value) (Q : Rs → HS → Prop) (X37 X106 X146 : Ct) : Ct :=
  o_push (.int 4) <|
  o_icmpne (bX11_init_79 E Q X37 X106 X146) <|
  o_aload 0 <|
  o_aload 5 <|
  o_callV [4] 2 (wX11_alone E) (x_out Q) <|
  (bX11_init_94 E Q X37 X106 X146)
def bX11_init_37 (E : Nat → Value) (Q : Rs → HS → Prop) (X37 X106 X146 : Ct) : Ct :=
  o_aload 4 <|
  o_callV [20] 1 (wJ9_hasNext E) (x_out Q) <|
  o_ifeq (bX11_init_97 E Q X37 X106 X146) <|
  o_aload 4 <|
  o_callV [20] 1 (wJ9_next E) (x_out Q) <|
  o_cast [10, 11] <|
  o_astore 5 <|
  o_aload 5 <|
  o_vsel 1 [10] (o_callV [10] 1 (wX7_sings E) (x_out Q) (bX11_init_66 E Q X37 X106 X146)) (o_callV [11] 1 (wX8_sings E) (x_out Q) (bX11_init_66 E Q X37 X106 X146))
def bX11_init_0 (E : Nat → Value) (Q : Rs → HS → Prop) (X37 X106 X146 : Ct) : Ct :=
  o_aload 0 <|
  o_callI 1 (wX2_init E) (x_out Q) <|
  o_aload 0 <|
  o_new 15 3 [.int 0, .null, .int 0] <|
  o_dup <|
  o_push (.int 144) <|
  o_callI 2 (wJ2_init E) (x_out Q) <|
  o_putf [4] 2 (.object "java/util/ArrayList") <|
  o_aload 0 <|
  o_aload 1 <|
  o_putf [4] 0 (.object "ChantRules$Rule") <|
  o_aload 0 <|
  o_aload 2 <|
  o_putf [4] 1 (.object "ChantRules$Rule") <|
  o_aload 1 <|
  o_getf [2] 0 <|
  o_callV [15] 1 (wJ2_iterator E) (x_out Q) <|
  o_astore 4 <|
  X37
def wX11_init (E : Nat → Value) : Wp := fun av h Q => match av with
  | [a0, a1, a2, a3] => ∀ X37 X106 X146 : Ct, (∀ ls st h, bX11_init_37 E Q X37 X106 X146 ls st h → X37 ls st h) → (∀ ls st h, bX11_init_106 E Q X37 X106 X146 ls st h → X106 ls st h) → (∀ ls st h, bX11_init_146 E Q X37 X106 X146 ls st h → X146 ls st h) → bX11_init_0 E Q X37 X106 X146 [a0, a1, a2, a3, jk, jk, jk, jk] [] h
  | _ => False
set_option maxHeartbeats 4000000 in
theorem tX11_init_208 {x : CX} {E : Nat → Value} {Q : Rs → HS → Prop} {X37 X106 X146 : Ct} (EN : EX x E) (G : Gd x cX11_init "ChantRules$Composed" yX11_init 8 (Option.none : Option Jvm.ClassFile.FieldType) Q) (hF : x.1.2.2.2.frames = 15 ∧ x.1.2.2.2.locals = 355) (hC : x.2.2.2.2.2 = (fun _ => false)) (hxt : (∀ z ∈ x.2.2.1.2.1.exceptionTable.toList, False)) (h37 : Snd x 37 X37) (h106 : Snd x 106 X106) (h146 : Snd x 146 X146) : Snd x 208 (bX11_init_208 E Q X37 X106 X146) := by
  unfold bX11_init_208
  exact s_return G dX11_init_208
set_option maxHeartbeats 4000000 in
theorem tX11_init_205 {x : CX} {E : Nat → Value} {Q : Rs → HS → Prop} {X37 X106 X146 : Ct} (EN : EX x E) (G : Gd x cX11_init "ChantRules$Composed" yX11_init 8 (Option.none : Option Jvm.ClassFile.FieldType) Q) (hF : x.1.2.2.2.frames = 15 ∧ x.1.2.2.2.locals = 355) (hC : x.2.2.2.2.2 = (fun _ => false)) (hxt : (∀ z ∈ x.2.2.1.2.1.exceptionTable.toList, False)) (h37 : Snd x 37 X37) (h106 : Snd x 106 X106) (h146 : Snd x 146 X146) : Snd x 205 (bX11_init_205 E Q X37 X106 X146) := by
  unfold bX11_init_205
  exact s_goto (tgt := 106) G.b dX11_init_205 (by decide) h106
set_option maxHeartbeats 4000000 in
theorem tX11_init_146 {x : CX} {E : Nat → Value} {Q : Rs → HS → Prop} {X37 X106 X146 : Ct} (EN : EX x E) (G : Gd x cX11_init "ChantRules$Composed" yX11_init 8 (Option.none : Option Jvm.ClassFile.FieldType) Q) (hF : x.1.2.2.2.frames = 15 ∧ x.1.2.2.2.locals = 355) (hC : x.2.2.2.2.2 = (fun _ => false)) (hxt : (∀ z ∈ x.2.2.1.2.1.exceptionTable.toList, False)) (h37 : Snd x 37 X37) (h106 : Snd x 106 X106) (h146 : Snd x 146 X146) : Snd x 146 (bX11_init_146 E Q X37 X106 X146) := by
  unfold bX11_init_146
  refine s_iload G.b dX11_init_146 ?_
  refine s_aload_n rfl G.b dX11_init_148 ?_
  refine s_getfN G.b G.ow G.kn (va_Nw.use rfl (va_Nw.warmF G.warm (EN.nw q181 rfl))) (fun _ h => h) fa_4 dX11_init_149 ?_
  refine s_icmpge (tgt := 205) G.b dX11_init_152 (by decide) (tX11_init_205 EN G hF hC hxt h37 h106 h146) ?_
  refine s_aload_n rfl G.b dX11_init_155 ?_
  refine s_getf G.b G.ow G.kn (G.hts _ q1290) (fun _ h => h) fa_47 dX11_init_156 ?_
  refine s_aload_n rfl G.b dX11_init_159 ?_
  refine s_iload G.b dX11_init_160 ?_
  refine s_aload G.b dX11_init_162 ?_
  refine s_getfN G.b G.ow G.kn (va_Nw.use rfl (va_Nw.warmF G.warm (EN.nw q640 rfl))) (fun _ h => h) fa_29 dX11_init_164 ?_
  refine s_callV G (mX11_pair EN) q1267 q1269 (sel_cons (r := (RX11, TX11, 3)) (by decide) rfl qs13 (sel_nil)) q106 q1270 nmk_95 (rm_of hF (Nat.le_of_ble_eq_true rfl) (Nat.le_of_ble_eq_true rfl)) dX11_init_167 ?_ (sx_out G (fun z hz => (hxt z hz).elim))
  refine s_aload_n rfl G.b dX11_init_170 ?_
  refine s_iload G.b dX11_init_171 ?_
  refine s_aload G.b dX11_init_173 ?_
  refine s_getfN G.b G.ow G.kn (va_Nw.use rfl (va_Nw.warmF G.warm (EN.nw q642 rfl))) (fun _ h => h) fa_30 dX11_init_175 ?_
  refine s_callV G (mX11_pair EN) q1267 q1269 (sel_cons (r := (RX11, TX11, 3)) (by decide) rfl qs13 (sel_nil)) q106 q1270 nmk_95 (rm_of hF (Nat.le_of_ble_eq_true rfl) (Nat.le_of_ble_eq_true rfl)) dX11_init_178 ?_ (sx_out G (fun z hz => (hxt z hz).elim))
  refine s_iconst (by decide) G.b dX11_init_181 ?_
  refine s_aload G.b dX11_init_182 ?_
  refine s_getfN G.b G.ow G.kn (va_Nw.use rfl (va_Nw.warmF G.warm (EN.nw q644 rfl))) (fun _ h => h) fa_31 dX11_init_184 ?_
  refine s_aload G.b dX11_init_187 ?_
  refine s_getfN G.b G.ow G.kn (va_Nw.use rfl (va_Nw.warmF G.warm (EN.nw q646 rfl))) (fun _ h => h) fa_15 dX11_init_189 ?_
  refine s_callSN G (mX0_arcOf EN) (va_Nw.use rfl (va_Nw.warmM G.warm (EN.nw q1277 rfl))) q631 q76 q632 nmk_83 (rm_of hF (Nat.le_of_ble_eq_true rfl) (Nat.le_of_ble_eq_true rfl)) dX11_init_192 ?_ (sx_out G (fun z hz => (hxt z hz).elim))
  refine s_callV G (mJ2_add EN) q1278 q402 (sel_cons (r := (RJ2, TJ2, 3)) (by decide) rfl q403 (sel_nil)) q82 q404 nmk_64 (rm_of hF (Nat.le_of_ble_eq_true rfl) (Nat.le_of_ble_eq_true rfl)) dX11_init_195 ?_ (sx_out G (fun z hz => (hxt z hz).elim))
  refine s_pop G.b dX11_init_198 ?_
  refine s_iinc (by decide) G.b (by rw [G.nl]; decide) (fun _ _ => by rw [hC]) dX11_init_199 ?_
  exact s_goto (tgt := 146) G.b dX11_init_202 (by decide) h146
set_option maxHeartbeats 4000000 in
theorem tX11_init_106 {x : CX} {E : Nat → Value} {Q : Rs → HS → Prop} {X37 X106 X146 : Ct} (EN : EX x E) (G : Gd x cX11_init "ChantRules$Composed" yX11_init 8 (Option.none : Option Jvm.ClassFile.FieldType) Q) (hF : x.1.2.2.2.frames = 15 ∧ x.1.2.2.2.locals = 355) (hC : x.2.2.2.2.2 = (fun _ => false)) (hxt : (∀ z ∈ x.2.2.1.2.1.exceptionTable.toList, False)) (h37 : Snd x 37 X37) (h106 : Snd x 106 X106) (h146 : Snd x 146 X146) : Snd x 106 (bX11_init_106 E Q X37 X106 X146) := by
  unfold bX11_init_106
  refine s_aload G.b dX11_init_106 ?_
  refine s_callF (r0 := (RJ9, TJ9, 4)) (w := ⟨"java/util/Iterator", "hasNext", "()Z"⟩) (by decide) rfl G (mJ9_hasNext EN) q1255 (va_Fw.moved (by decide +kernel) G.warm.alike ⟨(EN.nw q380 rfl), (EN.nw q379 rfl), (EN.nw q385 rfl), (EN.nw q383 rfl), (EN.nw q381 rfl)⟩) q382 q384 q91 q386 nmk_15 (rm_of hF (Nat.le_of_ble_eq_true rfl) (Nat.le_of_ble_eq_true rfl)) dX11_init_108 ?_ (sx_out G (fun z hz => (hxt z hz).elim))
  refine s_ifeq (tgt := 208) G.b dX11_init_113 (by decide) (tX11_init_208 EN G hF hC hxt h37 h106 h146) ?_
  refine s_aload G.b dX11_init_116 ?_
  refine s_callF (r0 := (RJ9, TJ9, 4)) (w := ⟨"java/util/Iterator", "next", "()Ljava/lang/Object;"⟩) (by decide) rfl G (mJ9_next EN) q1257 (va_Fw.moved (by decide +kernel) G.warm.alike ⟨(EN.nw q390 rfl), (EN.nw q389 rfl), (EN.nw q394 rfl), (EN.nw q392 rfl), (EN.nw q381 rfl)⟩) q391 q393 q91 q395 nmk_16 (rm_of hF (Nat.le_of_ble_eq_true rfl) (Nat.le_of_ble_eq_true rfl)) dX11_init_118 ?_ (sx_out G (fun z hz => (hxt z hz).elim))
  refine s_cast G.b G.ow G.kn G.hts q1258 ct_1 dX11_init_123 ?_
  refine s_astore G.b (by rw [G.nl]; decide) (fun _ _ => by rw [hC]) dX11_init_126 ?_
  refine s_aload G.b dX11_init_128 ?_
  refine s_inst G.b G.ow G.kn G.hts q1287 ct_6y ct_6n dX11_init_130 ?_
  refine s_ifeq (tgt := 205) G.b dX11_init_133 (by decide) (tX11_init_205 EN G hF hC hxt h37 h106 h146) ?_
  refine s_aload G.b dX11_init_136 ?_
  refine s_cast G.b G.ow G.kn G.hts q1287 ct_7 dX11_init_138 ?_
  refine s_astore G.b (by rw [G.nl]; decide) (fun _ _ => by rw [hC]) dX11_init_141 ?_
  refine s_iconst (by decide) G.b dX11_init_143 ?_
  refine s_istore G.b (by rw [G.nl]; decide) (fun _ _ => by rw [hC]) dX11_init_144 ?_
  exact h146
set_option maxHeartbeats 4000000 in
theorem tX11_init_97 {x : CX} {E : Nat → Value} {Q : Rs → HS → Prop} {X37 X106 X146 : Ct} (EN : EX x E) (G : Gd x cX11_init "ChantRules$Composed" yX11_init 8 (Option.none : Option Jvm.ClassFile.FieldType) Q) (hF : x.1.2.2.2.frames = 15 ∧ x.1.2.2.2.locals = 355) (hC : x.2.2.2.2.2 = (fun _ => false)) (hxt : (∀ z ∈ x.2.2.1.2.1.exceptionTable.toList, False)) (h37 : Snd x 37 X37) (h106 : Snd x 106 X106) (h146 : Snd x 146 X146) : Snd x 97 (bX11_init_97 E Q X37 X106 X146) := by
  unfold bX11_init_97
  refine s_aload_n rfl G.b dX11_init_97 ?_
  refine s_getfN G.b G.ow G.kn (va_Nw.use rfl (va_Nw.warmF G.warm (EN.nw q176 rfl))) (fun _ h => h) fa_3 dX11_init_98 ?_
  refine s_callV G (mJ2_iterator EN) q1253 q355 (sel_cons (r := (RJ2, TJ2, 3)) (by decide) rfl q356 (sel_nil)) q82 q357 nmk_18 (rm_of hF (Nat.le_of_ble_eq_true rfl) (Nat.le_of_ble_eq_true rfl)) dX11_init_101 ?_ (sx_out G (fun z hz => (hxt z hz).elim))
  refine s_astore G.b (by rw [G.nl]; decide) (fun _ _ => by rw [hC]) dX11_init_104 ?_
  exact h106
set_option maxHeartbeats 4000000 in
theorem tX11_init_94 {x : CX} {E : Nat → Value} {Q : Rs → HS → Prop} {X37 X106 X146 : Ct} (EN : EX x E) (G : Gd x cX11_init "ChantRules$Composed" yX11_init 8 (Option.none : Option Jvm.ClassFile.FieldType) Q) (hF : x.1.2.2.2.frames = 15 ∧ x.1.2.2.2.locals = 355) (hC : x.2.2.2.2.2 = (fun _ => false)) (hxt : (∀ z ∈ x.2.2.1.2.1.exceptionTable.toList, False)) (h37 : Snd x 37 X37) (h106 : Snd x 106 X106) (h146 : Snd x 146 X146) : Snd x 94 (bX11_init_94 E Q X37 X106 X146) := by
  unfold bX11_init_94
  exact s_goto (tgt := 37) G.b dX11_init_94 (by decide) h37
set_option maxHeartbeats 4000000 in
theorem tX11_init_90 {x : CX} {E : Nat → Value} {Q : Rs → HS → Prop} {X37 X106 X146 : Ct} (EN : EX x E) (G : Gd x cX11_init "ChantRules$Composed" yX11_init 8 (Option.none : Option Jvm.ClassFile.FieldType) Q) (hF : x.1.2.2.2.frames = 15 ∧ x.1.2.2.2.locals = 355) (hC : x.2.2.2.2.2 = (fun _ => false)) (hxt : (∀ z ∈ x.2.2.1.2.1.exceptionTable.toList, False)) (h37 : Snd x 37 X37) (h106 : Snd x 106 X106) (h146 : Snd x 146 X146) : Snd x 90 (bX11_init_90 E Q X37 X106 X146) := by
  unfold bX11_init_90
  refine s_aald G.b G.kn dX11_init_90 ?_
  refine s_callV G (mX11_with EN) q1279 q1281 (sel_cons (r := (RX11, TX11, 3)) (by decide) rfl qs14 (sel_nil)) q106 q1282 nmk_96 (rm_of hF (Nat.le_of_ble_eq_true rfl) (Nat.le_of_ble_eq_true rfl)) dX11_init_91 ?_ (sx_out G (fun z hz => (hxt z hz).elim))
  exact (tX11_init_94 EN G hF hC hxt h37 h106 h146)
set_option maxHeartbeats 4000000 in
theorem tX11_init_79 {x : CX} {E : Nat → Value} {Q : Rs → HS → Prop} {X37 X106 X146 : Ct} (EN : EX x E) (G : Gd x cX11_init "ChantRules$Composed" yX11_init 8 (Option.none : Option Jvm.ClassFile.FieldType) Q) (hF : x.1.2.2.2.frames = 15 ∧ x.1.2.2.2.locals = 355) (hC : x.2.2.2.2.2 = (fun _ => false)) (hxt : (∀ z ∈ x.2.2.1.2.1.exceptionTable.toList, False)) (h37 : Snd x 37 X37) (h106 : Snd x 106 X106) (h146 : Snd x 146 X146) : Snd x 79 (bX11_init_79 E Q X37 X106 X146) := by
  unfold bX11_init_79
  refine s_aload_n rfl G.b dX11_init_79 ?_
  refine s_aload G.b dX11_init_80 ?_
  refine s_aload_n rfl G.b dX11_init_82 ?_
  refine s_aload G.b dX11_init_83 ?_
  exact (s_vsel (s_callF (r0 := (RX7, TX7, 4)) (w := ⟨"ChantRules$Arc", "sings", "()I"⟩) (by decide) rfl G (mX7_sings EN) q1260 (va_Fw.moved (by decide +kernel) G.warm.alike ⟨(EN.nw q740 rfl), (EN.nw q739 rfl), (EN.nw q744 rfl), (EN.nw q742 rfl), (EN.nw q287 rfl)⟩) q741 q743 q99 q745 nmk_68 (rm_of hF (Nat.le_of_ble_eq_true rfl) (Nat.le_of_ble_eq_true rfl)) dX11_init_85 (tX11_init_90 EN G hF hC hxt h37 h106 h146) (sx_out G (fun z hz => (hxt z hz).elim)) ) (s_callF (r0 := (RX8, TX8, 5)) (w := ⟨"ChantRules$Arc", "sings", "()I"⟩) (by decide) rfl G (mX8_sings EN) q1260 (va_Fw.moved (by decide +kernel) G.warm.alike ⟨(EN.nw q740 rfl), (EN.nw q739 rfl), (EN.nw q749 rfl), (EN.nw q747 rfl), (EN.nw q293 rfl)⟩) q746 q748 q100 q750 nmk_68 (rm_of hF (Nat.le_of_ble_eq_true rfl) (Nat.le_of_ble_eq_true rfl)) dX11_init_85 (tX11_init_90 EN G hF hC hxt h37 h106 h146) (sx_out G (fun z hz => (hxt z hz).elim)) ))
set_option maxHeartbeats 4000000 in
theorem tX11_init_66 {x : CX} {E : Nat → Value} {Q : Rs → HS → Prop} {X37 X106 X146 : Ct} (EN : EX x E) (G : Gd x cX11_init "ChantRules$Composed" yX11_init 8 (Option.none : Option Jvm.ClassFile.FieldType) Q) (hF : x.1.2.2.2.frames = 15 ∧ x.1.2.2.2.locals = 355) (hC : x.2.2.2.2.2 = (fun _ => false)) (hxt : (∀ z ∈ x.2.2.1.2.1.exceptionTable.toList, False)) (h37 : Snd x 37 X37) (h106 : Snd x 106 X106) (h146 : Snd x 146 X146) : Snd x 66 (bX11_init_66 E Q X37 X106 X146) := by
  unfold bX11_init_66
  refine s_iconst (by decide) G.b dX11_init_66 ?_
  refine s_icmpne (tgt := 79) G.b dX11_init_67 (by decide) (tX11_init_79 EN G hF hC hxt h37 h106 h146) ?_
  refine s_aload_n rfl G.b dX11_init_70 ?_
  refine s_aload G.b dX11_init_71 ?_
  refine s_callV G (mX11_alone EN) q1261 q1263 (sel_cons (r := (RX11, TX11, 3)) (by decide) rfl qs12 (sel_nil)) q106 q1264 nmk_97 (rm_of hF (Nat.le_of_ble_eq_true rfl) (Nat.le_of_ble_eq_true rfl)) dX11_init_73 ?_ (sx_out G (fun z hz => (hxt z hz).elim))
  exact s_goto (tgt := 94) G.b dX11_init_76 (by decide) (tX11_init_94 EN G hF hC hxt h37 h106 h146)
set_option maxHeartbeats 4000000 in
theorem tX11_init_37 {x : CX} {E : Nat → Value} {Q : Rs → HS → Prop} {X37 X106 X146 : Ct} (EN : EX x E) (G : Gd x cX11_init "ChantRules$Composed" yX11_init 8 (Option.none : Option Jvm.ClassFile.FieldType) Q) (hF : x.1.2.2.2.frames = 15 ∧ x.1.2.2.2.locals = 355) (hC : x.2.2.2.2.2 = (fun _ => false)) (hxt : (∀ z ∈ x.2.2.1.2.1.exceptionTable.toList, False)) (h37 : Snd x 37 X37) (h106 : Snd x 106 X106) (h146 : Snd x 146 X146) : Snd x 37 (bX11_init_37 E Q X37 X106 X146) := by
  unfold bX11_init_37
  refine s_aload G.b dX11_init_37 ?_
  refine s_callF (r0 := (RJ9, TJ9, 4)) (w := ⟨"java/util/Iterator", "hasNext", "()Z"⟩) (by decide) rfl G (mJ9_hasNext EN) q1255 (va_Fw.moved (by decide +kernel) G.warm.alike ⟨(EN.nw q380 rfl), (EN.nw q379 rfl), (EN.nw q385 rfl), (EN.nw q383 rfl), (EN.nw q381 rfl)⟩) q382 q384 q91 q386 nmk_15 (rm_of hF (Nat.le_of_ble_eq_true rfl) (Nat.le_of_ble_eq_true rfl)) dX11_init_39 ?_ (sx_out G (fun z hz => (hxt z hz).elim))
  refine s_ifeq (tgt := 97) G.b dX11_init_44 (by decide) (tX11_init_97 EN G hF hC hxt h37 h106 h146) ?_
  refine s_aload G.b dX11_init_47 ?_
  refine s_callF (r0 := (RJ9, TJ9, 4)) (w := ⟨"java/util/Iterator", "next", "()Ljava/lang/Object;"⟩) (by decide) rfl G (mJ9_next EN) q1257 (va_Fw.moved (by decide +kernel) G.warm.alike ⟨(EN.nw q390 rfl), (EN.nw q389 rfl), (EN.nw q394 rfl), (EN.nw q392 rfl), (EN.nw q381 rfl)⟩) q391 q393 q91 q395 nmk_16 (rm_of hF (Nat.le_of_ble_eq_true rfl) (Nat.le_of_ble_eq_true rfl)) dX11_init_49 ?_ (sx_out G (fun z hz => (hxt z hz).elim))
  refine s_cast G.b G.ow G.kn G.hts q1258 ct_1 dX11_init_54 ?_
  refine s_astore G.b (by rw [G.nl]; decide) (fun _ _ => by rw [hC]) dX11_init_57 ?_
  refine s_aload G.b dX11_init_59 ?_
  exact (s_vsel (s_callF (r0 := (RX7, TX7, 4)) (w := ⟨"ChantRules$Arc", "sings", "()I"⟩) (by decide) rfl G (mX7_sings EN) q1260 (va_Fw.moved (by decide +kernel) G.warm.alike ⟨(EN.nw q740 rfl), (EN.nw q739 rfl), (EN.nw q744 rfl), (EN.nw q742 rfl), (EN.nw q287 rfl)⟩) q741 q743 q99 q745 nmk_68 (rm_of hF (Nat.le_of_ble_eq_true rfl) (Nat.le_of_ble_eq_true rfl)) dX11_init_61 (tX11_init_66 EN G hF hC hxt h37 h106 h146) (sx_out G (fun z hz => (hxt z hz).elim)) ) (s_callF (r0 := (RX8, TX8, 5)) (w := ⟨"ChantRules$Arc", "sings", "()I"⟩) (by decide) rfl G (mX8_sings EN) q1260 (va_Fw.moved (by decide +kernel) G.warm.alike ⟨(EN.nw q740 rfl), (EN.nw q739 rfl), (EN.nw q749 rfl), (EN.nw q747 rfl), (EN.nw q293 rfl)⟩) q746 q748 q100 q750 nmk_68 (rm_of hF (Nat.le_of_ble_eq_true rfl) (Nat.le_of_ble_eq_true rfl)) dX11_init_61 (tX11_init_66 EN G hF hC hxt h37 h106 h146) (sx_out G (fun z hz => (hxt z hz).elim)) ))
set_option maxHeartbeats 4000000 in
theorem tX11_init_0 {x : CX} {E : Nat → Value} {Q : Rs → HS → Prop} {X37 X106 X146 : Ct} (EN : EX x E) (G : Gd x cX11_init "ChantRules$Composed" yX11_init 8 (Option.none : Option Jvm.ClassFile.FieldType) Q) (hF : x.1.2.2.2.frames = 15 ∧ x.1.2.2.2.locals = 355) (hC : x.2.2.2.2.2 = (fun _ => false)) (hxt : (∀ z ∈ x.2.2.1.2.1.exceptionTable.toList, False)) (h37 : Snd x 37 X37) (h106 : Snd x 106 X106) (h146 : Snd x 146 X146) : Snd x 0 (bX11_init_0 E Q X37 X106 X146) := by
  unfold bX11_init_0
  refine s_aload_n rfl G.b dX11_init_0 ?_
  refine s_callIN G (mX2_init EN) rfl (va_Nw.use rfl (va_Nw.warmM G.warm (EN.nw q1250 rfl))) q139 q78 q140 nmk_2 (rm_of hF (Nat.le_of_ble_eq_true rfl) (Nat.le_of_ble_eq_true rfl)) dX11_init_1 ?_ (sx_out G (fun z hz => (hxt z hz).elim))
  refine s_aload_n rfl G.b dX11_init_4 ?_
  refine s_new (C := RJ2) (T0 := TJ2) (N := 3) G.b G.ow G.kn G.gr G.hts rfl (by decide) in_J2 q1251 q143 q82 tyJ2 tyJ2_ok rfl dX11_init_5 ?_
  refine s_dup G.b dX11_init_8 ?_
  refine s_sipush (by decide) G.b dX11_init_9 ?_
  refine s_callI G (mJ2_init EN) rfl q1252 q145 q82 q146 nmk_3 (rm_of hF (Nat.le_of_ble_eq_true rfl) (Nat.le_of_ble_eq_true rfl)) dX11_init_12 ?_ (sx_out G (fun z hz => (hxt z hz).elim))
  refine s_putfF (r0 := (RX11, TX11, 3)) G.b G.ow G.kn (G.hts _ q1290) (by rw [G.name]; rfl) rfl (by decide) (by decide) rfl (G.hts _ q1295) (by decide +kernel) dX11_init_15 ?_
  refine s_aload_n rfl G.b dX11_init_18 ?_
  refine s_aload_n rfl G.b dX11_init_19 ?_
  refine s_putfF (r0 := (RX11, TX11, 3)) G.b G.ow G.kn (G.hts _ q1288) (by rw [G.name]; rfl) rfl (by decide) (by decide) rfl (G.hts _ q1291) (by decide +kernel) dX11_init_20 ?_
  refine s_aload_n rfl G.b dX11_init_23 ?_
  refine s_aload_n rfl G.b dX11_init_24 ?_
  refine s_putfF (r0 := (RX11, TX11, 3)) G.b G.ow G.kn (G.hts _ q1289) (by rw [G.name]; rfl) rfl (by decide) (by decide) rfl (G.hts _ q1293) (by decide +kernel) dX11_init_25 ?_
  refine s_aload_n rfl G.b dX11_init_28 ?_
  refine s_getfN G.b G.ow G.kn (va_Nw.use rfl (va_Nw.warmF G.warm (EN.nw q176 rfl))) (fun _ h => h) fa_3 dX11_init_29 ?_
  refine s_callV G (mJ2_iterator EN) q1253 q355 (sel_cons (r := (RJ2, TJ2, 3)) (by decide) rfl q356 (sel_nil)) q82 q357 nmk_18 (rm_of hF (Nat.le_of_ble_eq_true rfl) (Nat.le_of_ble_eq_true rfl)) dX11_init_32 ?_ (sx_out G (fun z hz => (hxt z hz).elim))
  refine s_astore G.b (by rw [G.nl]; decide) (fun _ _ => by rw [hC]) dX11_init_35 ?_
  exact h37
set_option maxHeartbeats 4000000 in
theorem mX11_init {l : Launch} {D : DE} {s0 : State} {E : Nat → Value} (EN : EV l D s0 E) : rMet l D s0 yX11_init (ws_ yX11_init cX11_init 8 (Option.none : Option Jvm.ClassFile.FieldType)) 15 355 (wX11_init E) := by
  refine body_met (fun _ => false) EN.kn (fun w h => h) (by decide +kernel) rfl (fun av h Q hw => ?_) ?_
  · unfold wX11_init at hw
    split at hw
    · exact Nat.le_of_ble_eq_true rfl
    · exact hw.elim
  · intro p e s m below meth c av h Q hxt G hw
    unfold wX11_init at hw
    split at hw
    · exact tX11_init_0 EN G ⟨rfl, rfl⟩ rfl hxt (fun _ _ _ h => h) (fun _ _ _ h => h) (fun _ _ _ h => h) _ _ _ (hw (AW _ 37) (AW _ 106) (AW _ 146) (tX11_init_37 EN G ⟨rfl, rfl⟩ rfl hxt (fun _ _ _ h => h) (fun _ _ _ h => h) (fun _ _ _ h => h)) (tX11_init_106 EN G ⟨rfl, rfl⟩ rfl hxt (fun _ _ _ h => h) (fun _ _ _ h => h) (fun _ _ _ h => h)) (tX11_init_146 EN G ⟨rfl, rfl⟩ rfl hxt (fun _ _ _ h => h) (fun _ _ _ h => h) (fun _ _ _ h => h)))
    · exact hw.elim
/-! ChantRules$Choir.composed([LChantRules$Test;)LChantRules$Composed; (X1_composed) -/
theorem nmk_98 : nm_ok yX11_init 3 := ⟨by decide +kernel, by decide +kernel, by decide +kernel⟩
def bX1_composed_0 (E : Nat → Value) (Q : Rs → HS → Prop) : Ct :=
  o_new 4 3 [.null, .null, .null] <|
  o_dup <|
  o_aload 0 <|
  o_getf [1] 0 <|
  o_push (.int 0) <|
  o_ald [103, 104, 105, 106, 107] <|
  o_aload 0 <|
  o_getf [1] 0 <|
  o_push (.int 1) <|
  o_ald [103, 104, 105, 106, 107] <|
  o_aload 1 <|
  o_callI 4 (wX11_init E) (x_out Q) <|
  o_areturn Q
def wX1_composed (E : Nat → Value) : Wp := fun av h Q => match av with
  | [a0, a1] => bX1_composed_0 E Q [a0, a1] [] h
  | _ => False
set_option maxHeartbeats 4000000 in
theorem tX1_composed_0 {x : CX} {E : Nat → Value} {Q : Rs → HS → Prop} (EN : EX x E) (G : Gd x cX1_composed "ChantRules$Choir" yX1_composed 2 (Option.some (Jvm.ClassFile.FieldType.object "ChantRules$Composed")) Q) (hF : x.1.2.2.2.frames = 16 ∧ x.1.2.2.2.locals = 382) (hC : x.2.2.2.2.2 = (fun _ => false)) (hxt : (∀ z ∈ x.2.2.1.2.1.exceptionTable.toList, False)) : Snd x 0 (bX1_composed_0 E Q) := by
  unfold bX1_composed_0
  refine s_new (C := RX11) (T0 := TX11) (N := 3) G.b G.ow G.kn G.gr G.hts rfl (by decide) in_X11 q1245 q1246 q106 tyX11 tyX11_ok rfl dX1_composed_0 ?_
  refine s_dup G.b dX1_composed_3 ?_
  refine s_aload_n rfl G.b dX1_composed_4 ?_
  refine s_getf G.b G.ow G.kn (G.hts _ q192) (fun _ h => h) fa_5 dX1_composed_5 ?_
  refine s_iconst (by decide) G.b dX1_composed_8 ?_
  refine s_aald G.b G.kn dX1_composed_9 ?_
  refine s_aload_n rfl G.b dX1_composed_10 ?_
  refine s_getf G.b G.ow G.kn (G.hts _ q192) (fun _ h => h) fa_5 dX1_composed_11 ?_
  refine s_iconst (by decide) G.b dX1_composed_14 ?_
  refine s_aald G.b G.kn dX1_composed_15 ?_
  refine s_aload_n rfl G.b dX1_composed_16 ?_
  refine s_callI G (mX11_init EN) rfl q1247 q1248 q106 q1249 nmk_98 (rm_of hF (Nat.le_of_ble_eq_true rfl) (Nat.le_of_ble_eq_true rfl)) dX1_composed_17 ?_ (sx_out G (fun z hz => (hxt z hz).elim))
  exact s_areturn (Or.inl ⟨_, rfl⟩) G dX1_composed_20
set_option maxHeartbeats 4000000 in
theorem mX1_composed {l : Launch} {D : DE} {s0 : State} {E : Nat → Value} (EN : EV l D s0 E) : rMet l D s0 yX1_composed (ws_ yX1_composed cX1_composed 2 (Option.some (Jvm.ClassFile.FieldType.object "ChantRules$Composed"))) 16 382 (wX1_composed E) := by
  refine body_met (fun _ => false) EN.kn (fun w h => h) (by decide +kernel) rfl (fun av h Q hw => ?_) ?_
  · unfold wX1_composed at hw
    split at hw
    · exact Nat.le_of_ble_eq_true rfl
    · exact hw.elim
  · intro p e s m below meth c av h Q hxt G hw
    unfold wX1_composed at hw
    split at hw
    · exact tX1_composed_0 EN G ⟨rfl, rfl⟩ rfl hxt _ _ _ hw
    · exact hw.elim
/-! ChantRules$Composed.arcs()Ljava/util/ArrayList; (X11_arcs) -/
def bX11_arcs_0 (E : Nat → Value) (Q : Rs → HS → Prop) : Ct :=
  o_aload 0 <|
  o_getf [4] 2 <|
  o_areturn Q
def wX11_arcs (E : Nat → Value) : Wp := fun av h Q => match av with
  | [a0] => bX11_arcs_0 E Q [a0] [] h
  | _ => False
set_option maxHeartbeats 4000000 in
theorem tX11_arcs_0 {x : CX} {E : Nat → Value} {Q : Rs → HS → Prop} (EN : EX x E) (G : Gd x cX11_arcs "ChantRules$Composed" yX11_arcs 1 (Option.some (Jvm.ClassFile.FieldType.object "java/util/ArrayList")) Q) (hF : x.1.2.2.2.frames = 2 ∧ x.1.2.2.2.locals = 64) (hC : x.2.2.2.2.2 = (fun _ => false)) (hxt : (∀ z ∈ x.2.2.1.2.1.exceptionTable.toList, False)) : Snd x 0 (bX11_arcs_0 E Q) := by
  unfold bX11_arcs_0
  refine s_aload_n rfl G.b dX11_arcs_0 ?_
  refine s_getf G.b G.ow G.kn (G.hts _ q1290) (fun _ h => h) fa_47 dX11_arcs_1 ?_
  exact s_areturn (Or.inl ⟨_, rfl⟩) G dX11_arcs_4
set_option maxHeartbeats 4000000 in
theorem mX11_arcs {l : Launch} {D : DE} {s0 : State} {E : Nat → Value} (EN : EV l D s0 E) : rMet l D s0 yX11_arcs (ws_ yX11_arcs cX11_arcs 1 (Option.some (Jvm.ClassFile.FieldType.object "java/util/ArrayList"))) 2 64 (wX11_arcs E) := by
  refine body_met (fun _ => false) EN.kn (fun w h => h) (by decide +kernel) rfl (fun av h Q hw => ?_) ?_
  · unfold wX11_arcs at hw
    split at hw
    · exact Nat.le_of_ble_eq_true rfl
    · exact hw.elim
  · intro p e s m below meth c av h Q hxt G hw
    unfold wX11_arcs at hw
    split at hw
    · exact tX11_arcs_0 EN G ⟨rfl, rfl⟩ rfl hxt _ _ _ hw
    · exact hw.elim
/-! ChantRules$Rule.end(I)I (X3_end) -/
def bX3_end_0 (E : Nat → Value) (Q : Rs → HS → Prop) : Ct :=
  o_aload 0 <|
  o_getf [2] 1 <|
  o_iload 1 <|
  o_ald [100] <|
  o_ireturn .int Q
def wX3_end (E : Nat → Value) : Wp := fun av h Q => match av with
  | [a0, a1] => bX3_end_0 E Q [a0, a1] [] h
  | _ => False
set_option maxHeartbeats 4000000 in
theorem tX3_end_0 {x : CX} {E : Nat → Value} {Q : Rs → HS → Prop} (EN : EX x E) (G : Gd x cX3_end "ChantRules$Rule" yX3_end 2 (Option.some Jvm.ClassFile.FieldType.int) Q) (hF : x.1.2.2.2.frames = 2 ∧ x.1.2.2.2.locals = 64) (hC : x.2.2.2.2.2 = (fun _ => false)) (hxt : (∀ z ∈ x.2.2.1.2.1.exceptionTable.toList, False)) : Snd x 0 (bX3_end_0 E Q) := by
  unfold bX3_end_0
  refine s_aload_n rfl G.b dX3_end_0 ?_
  refine s_getf G.b G.ow G.kn (G.hts _ q179) (fun _ h => h) fa_2 dX3_end_1 ?_
  refine s_iload_n rfl G.b dX3_end_4 ?_
  refine s_iald G.b G.kn dX3_end_5 ?_
  exact s_ireturn G dX3_end_6
set_option maxHeartbeats 4000000 in
theorem mX3_end {l : Launch} {D : DE} {s0 : State} {E : Nat → Value} (EN : EV l D s0 E) : rMet l D s0 yX3_end (ws_ yX3_end cX3_end 2 (Option.some Jvm.ClassFile.FieldType.int)) 2 64 (wX3_end E) := by
  refine body_met (fun _ => false) EN.kn (fun w h => h) (by decide +kernel) rfl (fun av h Q hw => ?_) ?_
  · unfold wX3_end at hw
    split at hw
    · exact Nat.le_of_ble_eq_true rfl
    · exact hw.elim
  · intro p e s m below meth c av h Q hxt G hw
    unfold wX3_end at hw
    split at hw
    · exact tX3_end_0 EN G ⟨rfl, rfl⟩ rfl hxt _ _ _ hw
    · exact hw.elim
/-! ChantRules$Composed.end(I)I (X11_end) -/
theorem nmk_99 : nm_ok yX3_end 1 := ⟨by decide +kernel, by decide +kernel, by decide +kernel⟩
def bX11_end_51 (E : Nat → Value) (Q : Rs → HS → Prop) : Ct :=
  o_ireturn .int Q
def bX11_end_48 (E : Nat → Value) (Q : Rs → HS → Prop) : Ct :=
  o_iload 2 <|
  o_iload 3 <|
  o_iadd <|
  (bX11_end_51 E Q)
def bX11_end_44 (E : Nat → Value) (Q : Rs → HS → Prop) : Ct :=
  o_push (.int (-1)) <|
  (bX11_end_51 E Q)
def bX11_end_0 (E : Nat → Value) (Q : Rs → HS → Prop) : Ct :=
  o_aload 0 <|
  o_getf [4] 0 <|
  o_iload 1 <|
  o_aload 0 <|
  o_getf [4] 1 <|
  o_getf [2] 2 <|
  o_idiv <|
  o_callV [2] 2 (wX3_end E) (x_out Q) <|
  o_istore 2 <|
  o_aload 0 <|
  o_getf [4] 1 <|
  o_iload 1 <|
  o_aload 0 <|
  o_getf [4] 1 <|
  o_getf [2] 2 <|
  o_irem <|
  o_callV [2] 2 (wX3_end E) (x_out Q) <|
  o_istore 3 <|
  o_iload 2 <|
  o_push (.int (-1)) <|
  o_icmpeq (bX11_end_44 E Q) <|
  o_iload 3 <|
  o_push (.int (-1)) <|
  o_icmpne (bX11_end_48 E Q) <|
  (bX11_end_44 E Q)
def wX11_end (E : Nat → Value) : Wp := fun av h Q => match av with
  | [a0, a1] => bX11_end_0 E Q [a0, a1, jk, jk] [] h
  | _ => False
set_option maxHeartbeats 4000000 in
theorem tX11_end_51 {x : CX} {E : Nat → Value} {Q : Rs → HS → Prop} (EN : EX x E) (G : Gd x cX11_end "ChantRules$Composed" yX11_end 4 (Option.some Jvm.ClassFile.FieldType.int) Q) (hF : x.1.2.2.2.frames = 3 ∧ x.1.2.2.2.locals = 85) (hC : x.2.2.2.2.2 = (fun _ => false)) (hxt : (∀ z ∈ x.2.2.1.2.1.exceptionTable.toList, False)) : Snd x 51 (bX11_end_51 E Q) := by
  unfold bX11_end_51
  exact s_ireturn G dX11_end_51
set_option maxHeartbeats 4000000 in
theorem tX11_end_48 {x : CX} {E : Nat → Value} {Q : Rs → HS → Prop} (EN : EX x E) (G : Gd x cX11_end "ChantRules$Composed" yX11_end 4 (Option.some Jvm.ClassFile.FieldType.int) Q) (hF : x.1.2.2.2.frames = 3 ∧ x.1.2.2.2.locals = 85) (hC : x.2.2.2.2.2 = (fun _ => false)) (hxt : (∀ z ∈ x.2.2.1.2.1.exceptionTable.toList, False)) : Snd x 48 (bX11_end_48 E Q) := by
  unfold bX11_end_48
  refine s_iload_n rfl G.b dX11_end_48 ?_
  refine s_iload_n rfl G.b dX11_end_49 ?_
  refine s_iadd G.b dX11_end_50 ?_
  exact (tX11_end_51 EN G hF hC hxt)
set_option maxHeartbeats 4000000 in
theorem tX11_end_44 {x : CX} {E : Nat → Value} {Q : Rs → HS → Prop} (EN : EX x E) (G : Gd x cX11_end "ChantRules$Composed" yX11_end 4 (Option.some Jvm.ClassFile.FieldType.int) Q) (hF : x.1.2.2.2.frames = 3 ∧ x.1.2.2.2.locals = 85) (hC : x.2.2.2.2.2 = (fun _ => false)) (hxt : (∀ z ∈ x.2.2.1.2.1.exceptionTable.toList, False)) : Snd x 44 (bX11_end_44 E Q) := by
  unfold bX11_end_44
  refine s_iconst (by decide) G.b dX11_end_44 ?_
  exact s_goto (tgt := 51) G.b dX11_end_45 (by decide) (tX11_end_51 EN G hF hC hxt)
set_option maxHeartbeats 4000000 in
theorem tX11_end_0 {x : CX} {E : Nat → Value} {Q : Rs → HS → Prop} (EN : EX x E) (G : Gd x cX11_end "ChantRules$Composed" yX11_end 4 (Option.some Jvm.ClassFile.FieldType.int) Q) (hF : x.1.2.2.2.frames = 3 ∧ x.1.2.2.2.locals = 85) (hC : x.2.2.2.2.2 = (fun _ => false)) (hxt : (∀ z ∈ x.2.2.1.2.1.exceptionTable.toList, False)) : Snd x 0 (bX11_end_0 E Q) := by
  unfold bX11_end_0
  refine s_aload_n rfl G.b dX11_end_0 ?_
  refine s_getf G.b G.ow G.kn (G.hts _ q1288) (fun _ h => h) fa_48 dX11_end_1 ?_
  refine s_iload_n rfl G.b dX11_end_4 ?_
  refine s_aload_n rfl G.b dX11_end_5 ?_
  refine s_getf G.b G.ow G.kn (G.hts _ q1289) (fun _ h => h) fa_46 dX11_end_6 ?_
  refine s_getfN G.b G.ow G.kn (va_Nw.use rfl (va_Nw.warmF G.warm (EN.nw q181 rfl))) (fun _ h => h) fa_4 dX11_end_9 ?_
  refine s_idiv G.b dX11_end_12 ?_
  refine s_callV G (mX3_end EN) q913 q914 (sel_cons (r := (RX3, TX3, 3)) (by decide) rfl q915 (sel_nil)) q79 q916 nmk_99 (rm_of hF (Nat.le_of_ble_eq_true rfl) (Nat.le_of_ble_eq_true rfl)) dX11_end_13 ?_ (sx_out G (fun z hz => (hxt z hz).elim))
  refine s_istore_n rfl G.b (by rw [G.nl]; decide) (fun _ _ => by rw [hC]) dX11_end_16 ?_
  refine s_aload_n rfl G.b dX11_end_17 ?_
  refine s_getf G.b G.ow G.kn (G.hts _ q1289) (fun _ h => h) fa_46 dX11_end_18 ?_
  refine s_iload_n rfl G.b dX11_end_21 ?_
  refine s_aload_n rfl G.b dX11_end_22 ?_
  refine s_getf G.b G.ow G.kn (G.hts _ q1289) (fun _ h => h) fa_46 dX11_end_23 ?_
  refine s_getfN G.b G.ow G.kn (va_Nw.use rfl (va_Nw.warmF G.warm (EN.nw q181 rfl))) (fun _ h => h) fa_4 dX11_end_26 ?_
  refine s_irem G.b dX11_end_29 ?_
  refine s_callV G (mX3_end EN) q913 q914 (sel_cons (r := (RX3, TX3, 3)) (by decide) rfl q915 (sel_nil)) q79 q916 nmk_99 (rm_of hF (Nat.le_of_ble_eq_true rfl) (Nat.le_of_ble_eq_true rfl)) dX11_end_30 ?_ (sx_out G (fun z hz => (hxt z hz).elim))
  refine s_istore_n rfl G.b (by rw [G.nl]; decide) (fun _ _ => by rw [hC]) dX11_end_33 ?_
  refine s_iload_n rfl G.b dX11_end_34 ?_
  refine s_iconst (by decide) G.b dX11_end_35 ?_
  refine s_icmpeq (tgt := 44) G.b dX11_end_36 (by decide) (tX11_end_44 EN G hF hC hxt) ?_
  refine s_iload_n rfl G.b dX11_end_39 ?_
  refine s_iconst (by decide) G.b dX11_end_40 ?_
  refine s_icmpne (tgt := 48) G.b dX11_end_41 (by decide) (tX11_end_48 EN G hF hC hxt) ?_
  exact (tX11_end_44 EN G hF hC hxt)
set_option maxHeartbeats 4000000 in
theorem mX11_end {l : Launch} {D : DE} {s0 : State} {E : Nat → Value} (EN : EV l D s0 E) : rMet l D s0 yX11_end (ws_ yX11_end cX11_end 4 (Option.some Jvm.ClassFile.FieldType.int)) 3 85 (wX11_end E) := by
  refine body_met (fun _ => false) EN.kn (fun w h => h) (by decide +kernel) rfl (fun av h Q hw => ?_) ?_
  · unfold wX11_end at hw
    split at hw
    · exact Nat.le_of_ble_eq_true rfl
    · exact hw.elim
  · intro p e s m below meth c av h Q hxt G hw
    unfold wX11_end at hw
    split at hw
    · exact tX11_end_0 EN G ⟨rfl, rfl⟩ rfl hxt _ _ _ hw
    · exact hw.elim
/-! ChantRules$Composed.states()I (X11_states) -/
def bX11_states_0 (E : Nat → Value) (Q : Rs → HS → Prop) : Ct :=
  o_aload 0 <|
  o_getf [4] 0 <|
  o_getf [2] 2 <|
  o_aload 0 <|
  o_getf [4] 1 <|
  o_getf [2] 2 <|
  o_imul <|
  o_ireturn .int Q
def wX11_states (E : Nat → Value) : Wp := fun av h Q => match av with
  | [a0] => bX11_states_0 E Q [a0] [] h
  | _ => False
set_option maxHeartbeats 4000000 in
theorem tX11_states_0 {x : CX} {E : Nat → Value} {Q : Rs → HS → Prop} (EN : EX x E) (G : Gd x cX11_states "ChantRules$Composed" yX11_states 1 (Option.some Jvm.ClassFile.FieldType.int) Q) (hF : x.1.2.2.2.frames = 2 ∧ x.1.2.2.2.locals = 64) (hC : x.2.2.2.2.2 = (fun _ => false)) (hxt : (∀ z ∈ x.2.2.1.2.1.exceptionTable.toList, False)) : Snd x 0 (bX11_states_0 E Q) := by
  unfold bX11_states_0
  refine s_aload_n rfl G.b dX11_states_0 ?_
  refine s_getf G.b G.ow G.kn (G.hts _ q1288) (fun _ h => h) fa_48 dX11_states_1 ?_
  refine s_getfN G.b G.ow G.kn (va_Nw.use rfl (va_Nw.warmF G.warm (EN.nw q181 rfl))) (fun _ h => h) fa_4 dX11_states_4 ?_
  refine s_aload_n rfl G.b dX11_states_7 ?_
  refine s_getf G.b G.ow G.kn (G.hts _ q1289) (fun _ h => h) fa_46 dX11_states_8 ?_
  refine s_getfN G.b G.ow G.kn (va_Nw.use rfl (va_Nw.warmF G.warm (EN.nw q181 rfl))) (fun _ h => h) fa_4 dX11_states_11 ?_
  refine s_imul G.b dX11_states_14 ?_
  exact s_ireturn G dX11_states_15
set_option maxHeartbeats 4000000 in
theorem mX11_states {l : Launch} {D : DE} {s0 : State} {E : Nat → Value} (EN : EV l D s0 E) : rMet l D s0 yX11_states (ws_ yX11_states cX11_states 1 (Option.some Jvm.ClassFile.FieldType.int)) 2 64 (wX11_states E) := by
  refine body_met (fun _ => false) EN.kn (fun w h => h) (by decide +kernel) rfl (fun av h Q hw => ?_) ?_
  · unfold wX11_states at hw
    split at hw
    · exact Nat.le_of_ble_eq_true rfl
    · exact hw.elim
  · intro p e s m below meth c av h Q hxt G hw
    unfold wX11_states at hw
    split at hw
    · exact tX11_states_0 EN G ⟨rfl, rfl⟩ rfl hxt _ _ _ hw
    · exact hw.elim
/-! ChantRules$Letter.order(LChantRules$Letter;LChantRules$Letter;)I (X10_order) -/
theorem fa_49 : fieldAt [3] 1 "ChantRules$Letter" "sound" "I" := fa_cons (r := (RX10, TX10, 3)) rfl (by decide) rfl rfl rfl (fa_nil)
theorem fa_50 : fieldAt [3] 0 "ChantRules$Letter" "before" "LChantRules$Letter;" := fa_cons (r := (RX10, TX10, 3)) rfl (by decide) rfl rfl rfl (fa_nil)
theorem nmk_100 : nm_ok yX10_order 2 := ⟨by decide +kernel, by decide +kernel, by decide +kernel⟩
def bX10_order_44 (E : Nat → Value) (Q : Rs → HS → Prop) (Wr : Wp) : Ct :=
  o_ireturn .int Q
def bX10_order_35 (E : Nat → Value) (Q : Rs → HS → Prop) (Wr : Wp) : Ct :=
  o_aload 0 <|
  o_getf [3] 1 <|
  o_aload 1 <|
  o_getf [3] 1 <|
  o_isub <|
  (bX10_order_44 E Q Wr)
def bX10_order_15 (E : Nat → Value) (Q : Rs → HS → Prop) (Wr : Wp) : Ct :=
  o_aload 0 <|
  o_getf [3] 0 <|
  o_aload 1 <|
  o_getf [3] 0 <|
  o_call 2 Wr (x_out Q) <|
  o_istore 2 <|
  o_iload 2 <|
  o_ifeq (bX10_order_35 E Q Wr) <|
  o_iload 2 <|
  (bX10_order_44 E Q Wr)
def bX10_order_13 (E : Nat → Value) (Q : Rs → HS → Prop) (Wr : Wp) : Ct :=
  o_push (.int 0) <|
  o_ireturn .int Q
def bX10_order_0 (E : Nat → Value) (Q : Rs → HS → Prop) (Wr : Wp) : Ct :=
  o_aload 0 <|
  o_aload 1 <|
  o_acmpeq (bX10_order_13 E Q Wr) <|
  o_aload 0 <|
  o_ifnull (bX10_order_13 E Q Wr) <|
  o_aload 1 <|
  o_ifnonnull (bX10_order_15 E Q Wr) <|
  (bX10_order_13 E Q Wr)
def wX10_order (E : Nat → Value) : Nat → Wp
  | 0 => fun _ _ _ => False
  | d + 1 => fun av h Q => match av with
    | [a0, a1] => bX10_order_0 E Q (wX10_order E d) [a0, a1, jk] [] h
    | _ => False
set_option maxHeartbeats 4000000 in
theorem tX10_order_44 {x : CX} {E : Nat → Value} {Q : Rs → HS → Prop} {Wr : Wp} {Fr Lr : Nat} {Fp Lp : Nat} (EN : EX x E) (G : Gd x cX10_order "ChantRules$Letter" yX10_order 3 (Option.some Jvm.ClassFile.FieldType.int) Q) (hF : x.1.2.2.2.frames = 2 + Fr ∧ x.1.2.2.2.locals = 64 + Lr * 22) (hC : x.2.2.2.2.2 = (fun _ => false)) (hxt : (∀ z ∈ x.2.2.1.2.1.exceptionTable.toList, False)) (hr : rMet x.1.2.1 (yD x) x.2.2.2.1.2.1 yX10_order (ws_ yX10_order cX10_order 3 (Option.some Jvm.ClassFile.FieldType.int)) (2 + Fp) (64 + Lp * 22) Wr) (hp : Fp + 1 = Fr ∧ Lp + 1 = Lr) : Snd x 44 (bX10_order_44 E Q Wr) := by
  unfold bX10_order_44
  exact s_ireturn G dX10_order_44
set_option maxHeartbeats 4000000 in
theorem tX10_order_35 {x : CX} {E : Nat → Value} {Q : Rs → HS → Prop} {Wr : Wp} {Fr Lr : Nat} {Fp Lp : Nat} (EN : EX x E) (G : Gd x cX10_order "ChantRules$Letter" yX10_order 3 (Option.some Jvm.ClassFile.FieldType.int) Q) (hF : x.1.2.2.2.frames = 2 + Fr ∧ x.1.2.2.2.locals = 64 + Lr * 22) (hC : x.2.2.2.2.2 = (fun _ => false)) (hxt : (∀ z ∈ x.2.2.1.2.1.exceptionTable.toList, False)) (hr : rMet x.1.2.1 (yD x) x.2.2.2.1.2.1 yX10_order (ws_ yX10_order cX10_order 3 (Option.some Jvm.ClassFile.FieldType.int)) (2 + Fp) (64 + Lp * 22) Wr) (hp : Fp + 1 = Fr ∧ Lp + 1 = Lr) : Snd x 35 (bX10_order_35 E Q Wr) := by
  unfold bX10_order_35
  refine s_aload_n rfl G.b dX10_order_35 ?_
  refine s_getf G.b G.ow G.kn (G.hts _ q1048) (fun _ h => h) fa_49 dX10_order_36 ?_
  refine s_aload_n rfl G.b dX10_order_39 ?_
  refine s_getf G.b G.ow G.kn (G.hts _ q1048) (fun _ h => h) fa_49 dX10_order_40 ?_
  refine s_isub G.b dX10_order_43 ?_
  exact (tX10_order_44 EN G hF hC hxt hr hp)
set_option maxHeartbeats 4000000 in
theorem tX10_order_15 {x : CX} {E : Nat → Value} {Q : Rs → HS → Prop} {Wr : Wp} {Fr Lr : Nat} {Fp Lp : Nat} (EN : EX x E) (G : Gd x cX10_order "ChantRules$Letter" yX10_order 3 (Option.some Jvm.ClassFile.FieldType.int) Q) (hF : x.1.2.2.2.frames = 2 + Fr ∧ x.1.2.2.2.locals = 64 + Lr * 22) (hC : x.2.2.2.2.2 = (fun _ => false)) (hxt : (∀ z ∈ x.2.2.1.2.1.exceptionTable.toList, False)) (hr : rMet x.1.2.1 (yD x) x.2.2.2.1.2.1 yX10_order (ws_ yX10_order cX10_order 3 (Option.some Jvm.ClassFile.FieldType.int)) (2 + Fp) (64 + Lp * 22) Wr) (hp : Fp + 1 = Fr ∧ Lp + 1 = Lr) : Snd x 15 (bX10_order_15 E Q Wr) := by
  unfold bX10_order_15
  have hrr : rmOk x (2 + Fp) (64 + Lp * 22) 3 := by
    obtain ⟨hp1, hp2⟩ := hp
    exact ⟨by rw [hF.1]; omega, by rw [hF.2]; omega⟩
  refine s_aload_n rfl G.b dX10_order_15 ?_
  refine s_getf G.b G.ow G.kn (G.hts _ q1047) (fun _ h => h) fa_50 dX10_order_16 ?_
  refine s_aload_n rfl G.b dX10_order_19 ?_
  refine s_getf G.b G.ow G.kn (G.hts _ q1047) (fun _ h => h) fa_50 dX10_order_20 ?_
  refine s_callS G hr q1032 q1033 q104 q1034 nmk_100 hrr dX10_order_23 ?_ (sx_out G (fun z hz => (hxt z hz).elim))
  refine s_istore_n rfl G.b (by rw [G.nl]; decide) (fun _ _ => by rw [hC]) dX10_order_26 ?_
  refine s_iload_n rfl G.b dX10_order_27 ?_
  refine s_ifeq (tgt := 35) G.b dX10_order_28 (by decide) (tX10_order_35 EN G hF hC hxt hr hp) ?_
  refine s_iload_n rfl G.b dX10_order_31 ?_
  exact s_goto (tgt := 44) G.b dX10_order_32 (by decide) (tX10_order_44 EN G hF hC hxt hr hp)
set_option maxHeartbeats 4000000 in
theorem tX10_order_13 {x : CX} {E : Nat → Value} {Q : Rs → HS → Prop} {Wr : Wp} {Fr Lr : Nat} {Fp Lp : Nat} (EN : EX x E) (G : Gd x cX10_order "ChantRules$Letter" yX10_order 3 (Option.some Jvm.ClassFile.FieldType.int) Q) (hF : x.1.2.2.2.frames = 2 + Fr ∧ x.1.2.2.2.locals = 64 + Lr * 22) (hC : x.2.2.2.2.2 = (fun _ => false)) (hxt : (∀ z ∈ x.2.2.1.2.1.exceptionTable.toList, False)) (hr : rMet x.1.2.1 (yD x) x.2.2.2.1.2.1 yX10_order (ws_ yX10_order cX10_order 3 (Option.some Jvm.ClassFile.FieldType.int)) (2 + Fp) (64 + Lp * 22) Wr) (hp : Fp + 1 = Fr ∧ Lp + 1 = Lr) : Snd x 13 (bX10_order_13 E Q Wr) := by
  unfold bX10_order_13
  refine s_iconst (by decide) G.b dX10_order_13 ?_
  exact s_ireturn G dX10_order_14
set_option maxHeartbeats 4000000 in
theorem tX10_order_0 {x : CX} {E : Nat → Value} {Q : Rs → HS → Prop} {Wr : Wp} {Fr Lr : Nat} {Fp Lp : Nat} (EN : EX x E) (G : Gd x cX10_order "ChantRules$Letter" yX10_order 3 (Option.some Jvm.ClassFile.FieldType.int) Q) (hF : x.1.2.2.2.frames = 2 + Fr ∧ x.1.2.2.2.locals = 64 + Lr * 22) (hC : x.2.2.2.2.2 = (fun _ => false)) (hxt : (∀ z ∈ x.2.2.1.2.1.exceptionTable.toList, False)) (hr : rMet x.1.2.1 (yD x) x.2.2.2.1.2.1 yX10_order (ws_ yX10_order cX10_order 3 (Option.some Jvm.ClassFile.FieldType.int)) (2 + Fp) (64 + Lp * 22) Wr) (hp : Fp + 1 = Fr ∧ Lp + 1 = Lr) : Snd x 0 (bX10_order_0 E Q Wr) := by
  unfold bX10_order_0
  refine s_aload_n rfl G.b dX10_order_0 ?_
  refine s_aload_n rfl G.b dX10_order_1 ?_
  refine s_acmpeq (tgt := 13) G.b dX10_order_2 (by decide) (tX10_order_13 EN G hF hC hxt hr hp) ?_
  refine s_aload_n rfl G.b dX10_order_5 ?_
  refine s_ifnull (tgt := 13) G.b dX10_order_6 (by decide) (tX10_order_13 EN G hF hC hxt hr hp) ?_
  refine s_aload_n rfl G.b dX10_order_9 ?_
  refine s_ifnonnull (tgt := 15) G.b dX10_order_10 (by decide) (tX10_order_15 EN G hF hC hxt hr hp) ?_
  exact (tX10_order_13 EN G hF hC hxt hr hp)
set_option maxHeartbeats 4000000 in
theorem mX10_order {l : Launch} {D : DE} {s0 : State} {E : Nat → Value} (EN : EV l D s0 E) : ∀ d, rMet l D s0 yX10_order (ws_ yX10_order cX10_order 3 (Option.some Jvm.ClassFile.FieldType.int)) (2 + d) (64 + d * 22) (wX10_order E d) := by
  intro d
  induction d with
  | zero => intro av h Q hA hw; exact hw.elim
  | succ d ih =>
    refine body_met (fun _ => false) EN.kn (fun w h => h) (by decide +kernel) rfl (fun av h Q hw => ?_) ?_
    · unfold wX10_order at hw
      split at hw
      · exact Nat.le_of_ble_eq_true rfl
      · exact hw.elim
    · intro p e s m below meth c av h Q hxt G hw
      unfold wX10_order at hw
      split at hw
      · exact tX10_order_0 (Fr := d + 1) (Lr := d + 1) (Fp := d) (Lp := d) EN G ⟨rfl, rfl⟩ rfl hxt ih ⟨rfl, rfl⟩ _ _ _ hw
      · exact hw.elim
/-! ChantRules$Letter.isAhead(LChantRules$Letter;ILChantRules$Letter;)Z (X10_isAhead) -/
def bX10_isAhead_57 (E : Nat → Value) (Q : Rs → HS → Prop) : Ct :=
  o_ireturn .boolean Q
def bX10_isAhead_56 (E : Nat → Value) (Q : Rs → HS → Prop) : Ct :=
  o_push (.int 0) <|
  (bX10_isAhead_57 E Q)
def bX10_isAhead_44 (E : Nat → Value) (Q : Rs → HS → Prop) : Ct :=
  o_iload 1 <|
  o_aload 2 <|
  o_getf [3] 1 <|
  o_icmpge (bX10_isAhead_56 E Q) <|
  o_push (.int 1) <|
  (bX10_isAhead_57 E Q)
def bX10_isAhead_40 (E : Nat → Value) (Q : Rs → HS → Prop) : Ct :=
  o_push (.int 0) <|
  (bX10_isAhead_57 E Q)
def bX10_isAhead_19 (E : Nat → Value) (Q : Rs → HS → Prop) : Ct :=
  o_aload 0 <|
  o_aload 2 <|
  o_getf [3] 0 <|
  o_call 2 (wX10_order E 400) (x_out Q) <|
  o_istore 3 <|
  o_iload 3 <|
  o_ifeq (bX10_isAhead_44 E Q) <|
  o_iload 3 <|
  o_ifge (bX10_isAhead_40 E Q) <|
  o_push (.int 1) <|
  (bX10_isAhead_57 E Q)
def bX10_isAhead_18 (E : Nat → Value) (Q : Rs → HS → Prop) : Ct :=
  o_ireturn .boolean Q
def bX10_isAhead_17 (E : Nat → Value) (Q : Rs → HS → Prop) : Ct :=
  o_push (.int 0) <|
  (bX10_isAhead_18 E Q)
def bX10_isAhead_0 (E : Nat → Value) (Q : Rs → HS → Prop) : Ct :=
  o_iload 1 <|
  o_push (.int 4) <|
  o_icmpne (bX10_isAhead_19 E Q) <|
  o_aload 0 <|
  o_aload 2 <|
  o_call 2 (wX10_order E 400) (x_out Q) <|
  o_ifge (bX10_isAhead_17 E Q) <|
  o_push (.int 1) <|
  (bX10_isAhead_18 E Q)
def wX10_isAhead (E : Nat → Value) : Wp := fun av h Q => match av with
  | [a0, a1, a2] => bX10_isAhead_0 E Q [a0, a1, a2, jk] [] h
  | _ => False
set_option maxHeartbeats 4000000 in
theorem tX10_isAhead_57 {x : CX} {E : Nat → Value} {Q : Rs → HS → Prop} (EN : EX x E) (G : Gd x cX10_isAhead "ChantRules$Letter" yX10_isAhead 4 (Option.some Jvm.ClassFile.FieldType.boolean) Q) (hF : x.1.2.2.2.frames = 403 ∧ x.1.2.2.2.locals = 8886) (hC : x.2.2.2.2.2 = (fun _ => false)) (hxt : (∀ z ∈ x.2.2.1.2.1.exceptionTable.toList, False)) : Snd x 57 (bX10_isAhead_57 E Q) := by
  unfold bX10_isAhead_57
  exact s_ireturn G dX10_isAhead_57
set_option maxHeartbeats 4000000 in
theorem tX10_isAhead_56 {x : CX} {E : Nat → Value} {Q : Rs → HS → Prop} (EN : EX x E) (G : Gd x cX10_isAhead "ChantRules$Letter" yX10_isAhead 4 (Option.some Jvm.ClassFile.FieldType.boolean) Q) (hF : x.1.2.2.2.frames = 403 ∧ x.1.2.2.2.locals = 8886) (hC : x.2.2.2.2.2 = (fun _ => false)) (hxt : (∀ z ∈ x.2.2.1.2.1.exceptionTable.toList, False)) : Snd x 56 (bX10_isAhead_56 E Q) := by
  unfold bX10_isAhead_56
  refine s_iconst (by decide) G.b dX10_isAhead_56 ?_
  exact (tX10_isAhead_57 EN G hF hC hxt)
set_option maxHeartbeats 4000000 in
theorem tX10_isAhead_44 {x : CX} {E : Nat → Value} {Q : Rs → HS → Prop} (EN : EX x E) (G : Gd x cX10_isAhead "ChantRules$Letter" yX10_isAhead 4 (Option.some Jvm.ClassFile.FieldType.boolean) Q) (hF : x.1.2.2.2.frames = 403 ∧ x.1.2.2.2.locals = 8886) (hC : x.2.2.2.2.2 = (fun _ => false)) (hxt : (∀ z ∈ x.2.2.1.2.1.exceptionTable.toList, False)) : Snd x 44 (bX10_isAhead_44 E Q) := by
  unfold bX10_isAhead_44
  refine s_iload_n rfl G.b dX10_isAhead_44 ?_
  refine s_aload_n rfl G.b dX10_isAhead_45 ?_
  refine s_getf G.b G.ow G.kn (G.hts _ q1048) (fun _ h => h) fa_49 dX10_isAhead_46 ?_
  refine s_icmpge (tgt := 56) G.b dX10_isAhead_49 (by decide) (tX10_isAhead_56 EN G hF hC hxt) ?_
  refine s_iconst (by decide) G.b dX10_isAhead_52 ?_
  exact s_goto (tgt := 57) G.b dX10_isAhead_53 (by decide) (tX10_isAhead_57 EN G hF hC hxt)
set_option maxHeartbeats 4000000 in
theorem tX10_isAhead_40 {x : CX} {E : Nat → Value} {Q : Rs → HS → Prop} (EN : EX x E) (G : Gd x cX10_isAhead "ChantRules$Letter" yX10_isAhead 4 (Option.some Jvm.ClassFile.FieldType.boolean) Q) (hF : x.1.2.2.2.frames = 403 ∧ x.1.2.2.2.locals = 8886) (hC : x.2.2.2.2.2 = (fun _ => false)) (hxt : (∀ z ∈ x.2.2.1.2.1.exceptionTable.toList, False)) : Snd x 40 (bX10_isAhead_40 E Q) := by
  unfold bX10_isAhead_40
  refine s_iconst (by decide) G.b dX10_isAhead_40 ?_
  exact s_goto (tgt := 57) G.b dX10_isAhead_41 (by decide) (tX10_isAhead_57 EN G hF hC hxt)
set_option maxHeartbeats 4000000 in
theorem tX10_isAhead_19 {x : CX} {E : Nat → Value} {Q : Rs → HS → Prop} (EN : EX x E) (G : Gd x cX10_isAhead "ChantRules$Letter" yX10_isAhead 4 (Option.some Jvm.ClassFile.FieldType.boolean) Q) (hF : x.1.2.2.2.frames = 403 ∧ x.1.2.2.2.locals = 8886) (hC : x.2.2.2.2.2 = (fun _ => false)) (hxt : (∀ z ∈ x.2.2.1.2.1.exceptionTable.toList, False)) : Snd x 19 (bX10_isAhead_19 E Q) := by
  unfold bX10_isAhead_19
  refine s_aload_n rfl G.b dX10_isAhead_19 ?_
  refine s_aload_n rfl G.b dX10_isAhead_20 ?_
  refine s_getf G.b G.ow G.kn (G.hts _ q1047) (fun _ h => h) fa_50 dX10_isAhead_21 ?_
  refine s_callS G (mX10_order EN 400) q1032 q1033 q104 q1034 nmk_100 (rm_of hF (Nat.le_of_ble_eq_true rfl) (Nat.le_of_ble_eq_true rfl)) dX10_isAhead_24 ?_ (sx_out G (fun z hz => (hxt z hz).elim))
  refine s_istore_n rfl G.b (by rw [G.nl]; decide) (fun _ _ => by rw [hC]) dX10_isAhead_27 ?_
  refine s_iload_n rfl G.b dX10_isAhead_28 ?_
  refine s_ifeq (tgt := 44) G.b dX10_isAhead_29 (by decide) (tX10_isAhead_44 EN G hF hC hxt) ?_
  refine s_iload_n rfl G.b dX10_isAhead_32 ?_
  refine s_ifge (tgt := 40) G.b dX10_isAhead_33 (by decide) (tX10_isAhead_40 EN G hF hC hxt) ?_
  refine s_iconst (by decide) G.b dX10_isAhead_36 ?_
  exact s_goto (tgt := 57) G.b dX10_isAhead_37 (by decide) (tX10_isAhead_57 EN G hF hC hxt)
set_option maxHeartbeats 4000000 in
theorem tX10_isAhead_18 {x : CX} {E : Nat → Value} {Q : Rs → HS → Prop} (EN : EX x E) (G : Gd x cX10_isAhead "ChantRules$Letter" yX10_isAhead 4 (Option.some Jvm.ClassFile.FieldType.boolean) Q) (hF : x.1.2.2.2.frames = 403 ∧ x.1.2.2.2.locals = 8886) (hC : x.2.2.2.2.2 = (fun _ => false)) (hxt : (∀ z ∈ x.2.2.1.2.1.exceptionTable.toList, False)) : Snd x 18 (bX10_isAhead_18 E Q) := by
  unfold bX10_isAhead_18
  exact s_ireturn G dX10_isAhead_18
set_option maxHeartbeats 4000000 in
theorem tX10_isAhead_17 {x : CX} {E : Nat → Value} {Q : Rs → HS → Prop} (EN : EX x E) (G : Gd x cX10_isAhead "ChantRules$Letter" yX10_isAhead 4 (Option.some Jvm.ClassFile.FieldType.boolean) Q) (hF : x.1.2.2.2.frames = 403 ∧ x.1.2.2.2.locals = 8886) (hC : x.2.2.2.2.2 = (fun _ => false)) (hxt : (∀ z ∈ x.2.2.1.2.1.exceptionTable.toList, False)) : Snd x 17 (bX10_isAhead_17 E Q) := by
  unfold bX10_isAhead_17
  refine s_iconst (by decide) G.b dX10_isAhead_17 ?_
  exact (tX10_isAhead_18 EN G hF hC hxt)
set_option maxHeartbeats 4000000 in
theorem tX10_isAhead_0 {x : CX} {E : Nat → Value} {Q : Rs → HS → Prop} (EN : EX x E) (G : Gd x cX10_isAhead "ChantRules$Letter" yX10_isAhead 4 (Option.some Jvm.ClassFile.FieldType.boolean) Q) (hF : x.1.2.2.2.frames = 403 ∧ x.1.2.2.2.locals = 8886) (hC : x.2.2.2.2.2 = (fun _ => false)) (hxt : (∀ z ∈ x.2.2.1.2.1.exceptionTable.toList, False)) : Snd x 0 (bX10_isAhead_0 E Q) := by
  unfold bX10_isAhead_0
  refine s_iload_n rfl G.b dX10_isAhead_0 ?_
  refine s_iconst (by decide) G.b dX10_isAhead_1 ?_
  refine s_icmpne (tgt := 19) G.b dX10_isAhead_2 (by decide) (tX10_isAhead_19 EN G hF hC hxt) ?_
  refine s_aload_n rfl G.b dX10_isAhead_5 ?_
  refine s_aload_n rfl G.b dX10_isAhead_6 ?_
  refine s_callS G (mX10_order EN 400) q1032 q1033 q104 q1034 nmk_100 (rm_of hF (Nat.le_of_ble_eq_true rfl) (Nat.le_of_ble_eq_true rfl)) dX10_isAhead_7 ?_ (sx_out G (fun z hz => (hxt z hz).elim))
  refine s_ifge (tgt := 17) G.b dX10_isAhead_10 (by decide) (tX10_isAhead_17 EN G hF hC hxt) ?_
  refine s_iconst (by decide) G.b dX10_isAhead_13 ?_
  exact s_goto (tgt := 18) G.b dX10_isAhead_14 (by decide) (tX10_isAhead_18 EN G hF hC hxt)
set_option maxHeartbeats 4000000 in
theorem mX10_isAhead {l : Launch} {D : DE} {s0 : State} {E : Nat → Value} (EN : EV l D s0 E) : rMet l D s0 yX10_isAhead (ws_ yX10_isAhead cX10_isAhead 4 (Option.some Jvm.ClassFile.FieldType.boolean)) 403 8886 (wX10_isAhead E) := by
  refine body_met (fun _ => false) EN.kn (fun w h => h) (by decide +kernel) rfl (fun av h Q hw => ?_) ?_
  · unfold wX10_isAhead at hw
    split at hw
    · exact Nat.le_of_ble_eq_true rfl
    · exact hw.elim
  · intro p e s m below meth c av h Q hxt G hw
    unfold wX10_isAhead at hw
    split at hw
    · exact tX10_isAhead_0 EN G ⟨rfl, rfl⟩ rfl hxt _ _ _ hw
    · exact hw.elim
/-! ChantRules$Letter.lengthOf(LChantRules$Letter;)I (X10_lengthOf) -/
theorem fa_51 : fieldAt [3] 2 "ChantRules$Letter" "length" "I" := fa_cons (r := (RX10, TX10, 3)) rfl (by decide) rfl rfl rfl (fa_nil)
def bX10_lengthOf_12 (E : Nat → Value) (Q : Rs → HS → Prop) : Ct :=
  o_ireturn .int Q
def bX10_lengthOf_8 (E : Nat → Value) (Q : Rs → HS → Prop) : Ct :=
  o_aload 0 <|
  o_getf [3] 2 <|
  (bX10_lengthOf_12 E Q)
def bX10_lengthOf_0 (E : Nat → Value) (Q : Rs → HS → Prop) : Ct :=
  o_aload 0 <|
  o_ifnonnull (bX10_lengthOf_8 E Q) <|
  o_push (.int 0) <|
  (bX10_lengthOf_12 E Q)
def wX10_lengthOf (E : Nat → Value) : Wp := fun av h Q => match av with
  | [a0] => bX10_lengthOf_0 E Q [a0] [] h
  | _ => False
set_option maxHeartbeats 4000000 in
theorem tX10_lengthOf_12 {x : CX} {E : Nat → Value} {Q : Rs → HS → Prop} (EN : EX x E) (G : Gd x cX10_lengthOf "ChantRules$Letter" yX10_lengthOf 1 (Option.some Jvm.ClassFile.FieldType.int) Q) (hF : x.1.2.2.2.frames = 2 ∧ x.1.2.2.2.locals = 64) (hC : x.2.2.2.2.2 = (fun _ => false)) (hxt : (∀ z ∈ x.2.2.1.2.1.exceptionTable.toList, False)) : Snd x 12 (bX10_lengthOf_12 E Q) := by
  unfold bX10_lengthOf_12
  exact s_ireturn G dX10_lengthOf_12
set_option maxHeartbeats 4000000 in
theorem tX10_lengthOf_8 {x : CX} {E : Nat → Value} {Q : Rs → HS → Prop} (EN : EX x E) (G : Gd x cX10_lengthOf "ChantRules$Letter" yX10_lengthOf 1 (Option.some Jvm.ClassFile.FieldType.int) Q) (hF : x.1.2.2.2.frames = 2 ∧ x.1.2.2.2.locals = 64) (hC : x.2.2.2.2.2 = (fun _ => false)) (hxt : (∀ z ∈ x.2.2.1.2.1.exceptionTable.toList, False)) : Snd x 8 (bX10_lengthOf_8 E Q) := by
  unfold bX10_lengthOf_8
  refine s_aload_n rfl G.b dX10_lengthOf_8 ?_
  refine s_getf G.b G.ow G.kn (G.hts _ q1049) (fun _ h => h) fa_51 dX10_lengthOf_9 ?_
  exact (tX10_lengthOf_12 EN G hF hC hxt)
set_option maxHeartbeats 4000000 in
theorem tX10_lengthOf_0 {x : CX} {E : Nat → Value} {Q : Rs → HS → Prop} (EN : EX x E) (G : Gd x cX10_lengthOf "ChantRules$Letter" yX10_lengthOf 1 (Option.some Jvm.ClassFile.FieldType.int) Q) (hF : x.1.2.2.2.frames = 2 ∧ x.1.2.2.2.locals = 64) (hC : x.2.2.2.2.2 = (fun _ => false)) (hxt : (∀ z ∈ x.2.2.1.2.1.exceptionTable.toList, False)) : Snd x 0 (bX10_lengthOf_0 E Q) := by
  unfold bX10_lengthOf_0
  refine s_aload_n rfl G.b dX10_lengthOf_0 ?_
  refine s_ifnonnull (tgt := 8) G.b dX10_lengthOf_1 (by decide) (tX10_lengthOf_8 EN G hF hC hxt) ?_
  refine s_iconst (by decide) G.b dX10_lengthOf_4 ?_
  exact s_goto (tgt := 12) G.b dX10_lengthOf_5 (by decide) (tX10_lengthOf_12 EN G hF hC hxt)
set_option maxHeartbeats 4000000 in
theorem mX10_lengthOf {l : Launch} {D : DE} {s0 : State} {E : Nat → Value} (EN : EV l D s0 E) : rMet l D s0 yX10_lengthOf (ws_ yX10_lengthOf cX10_lengthOf 1 (Option.some Jvm.ClassFile.FieldType.int)) 2 64 (wX10_lengthOf E) := by
  refine body_met (fun _ => false) EN.kn (fun w h => h) (by decide +kernel) rfl (fun av h Q hw => ?_) ?_
  · unfold wX10_lengthOf at hw
    split at hw
    · exact Nat.le_of_ble_eq_true rfl
    · exact hw.elim
  · intro p e s m below meth c av h Q hxt G hw
    unfold wX10_lengthOf at hw
    split at hw
    · exact tX10_lengthOf_0 EN G ⟨rfl, rfl⟩ rfl hxt _ _ _ hw
    · exact hw.elim
/-! ChantRules$Way.isLess(IILChantRules$Way;)Z (X9_isLess) -/
theorem fa_52 : fieldAt [12] 1 "ChantRules$Way" "song" "LChantRules$Letter;" := fa_cons (r := (RX9, TX9, 2)) rfl (by decide) rfl rfl rfl (fa_nil)
theorem nmk_101 : nm_ok yX10_isAhead 3 := ⟨by decide +kernel, by decide +kernel, by decide +kernel⟩
theorem nmk_102 : nm_ok yX10_lengthOf 1 := ⟨by decide +kernel, by decide +kernel, by decide +kernel⟩
def bX9_isLess_103 (E : Nat → Value) (Q : Rs → HS → Prop) : Ct :=
  o_ireturn .boolean Q
def bX9_isLess_91 (E : Nat → Value) (Q : Rs → HS → Prop) : Ct :=
  o_aload 0 <|
  o_getf [12] 1 <|
  o_iload 2 <|
  o_aload 3 <|
  o_getf [12] 1 <|
  o_call 3 (wX10_isAhead E) (x_out Q) <|
  (bX9_isLess_103 E Q)
def bX9_isLess_87 (E : Nat → Value) (Q : Rs → HS → Prop) : Ct :=
  o_push (.int 0) <|
  (bX9_isLess_103 E Q)
def bX9_isLess_57 (E : Nat → Value) (Q : Rs → HS → Prop) : Ct :=
  o_iadd <|
  o_istore 4 <|
  o_aload 3 <|
  o_getf [12] 1 <|
  o_call 1 (wX10_lengthOf E) (x_out Q) <|
  o_istore 5 <|
  o_iload 4 <|
  o_iload 5 <|
  o_icmpeq (bX9_isLess_91 E Q) <|
  o_iload 4 <|
  o_iload 5 <|
  o_icmpge (bX9_isLess_87 E Q) <|
  o_push (.int 1) <|
  (bX9_isLess_103 E Q)
def bX9_isLess_56 (E : Nat → Value) (Q : Rs → HS → Prop) : Ct :=
  o_push (.int 1) <|
  (bX9_isLess_57 E Q)
def bX9_isLess_40 (E : Nat → Value) (Q : Rs → HS → Prop) : Ct :=
  o_aload 0 <|
  o_getf [12] 1 <|
  o_call 1 (wX10_lengthOf E) (x_out Q) <|
  o_iload 2 <|
  o_push (.int 4) <|
  o_icmpne (bX9_isLess_56 E Q) <|
  o_push (.int 0) <|
  (bX9_isLess_57 E Q)
def bX9_isLess_39 (E : Nat → Value) (Q : Rs → HS → Prop) : Ct :=
  o_ireturn .boolean Q
def bX9_isLess_38 (E : Nat → Value) (Q : Rs → HS → Prop) : Ct :=
  o_push (.int 0) <|
  (bX9_isLess_39 E Q)
def bX9_isLess_34 (E : Nat → Value) (Q : Rs → HS → Prop) : Ct :=
  o_push (.int 1) <|
  (bX9_isLess_39 E Q)
def bX9_isLess_17 (E : Nat → Value) (Q : Rs → HS → Prop) : Ct :=
  o_aload 3 <|
  o_ifnull (bX9_isLess_34 E Q) <|
  o_aload 0 <|
  o_getf [12] 0 <|
  o_iload 1 <|
  o_iadd <|
  o_aload 3 <|
  o_getf [12] 0 <|
  o_icmpge (bX9_isLess_38 E Q) <|
  (bX9_isLess_34 E Q)
def bX9_isLess_0 (E : Nat → Value) (Q : Rs → HS → Prop) : Ct :=
  o_aload 3 <|
  o_ifnull (bX9_isLess_17 E Q) <|
  o_aload 0 <|
  o_getf [12] 0 <|
  o_iload 1 <|
  o_iadd <|
  o_aload 3 <|
  o_getf [12] 0 <|
  o_icmpeq (bX9_isLess_40 E Q) <|
  (bX9_isLess_17 E Q)
def wX9_isLess (E : Nat → Value) : Wp := fun av h Q => match av with
  | [a0, a1, a2, a3] => bX9_isLess_0 E Q [a0, a1, a2, a3, jk, jk] [] h
  | _ => False
set_option maxHeartbeats 4000000 in
theorem tX9_isLess_103 {x : CX} {E : Nat → Value} {Q : Rs → HS → Prop} (EN : EX x E) (G : Gd x cX9_isLess "ChantRules$Way" yX9_isLess 6 (Option.some Jvm.ClassFile.FieldType.boolean) Q) (hF : x.1.2.2.2.frames = 404 ∧ x.1.2.2.2.locals = 8909) (hC : x.2.2.2.2.2 = (fun _ => false)) (hxt : (∀ z ∈ x.2.2.1.2.1.exceptionTable.toList, False)) : Snd x 103 (bX9_isLess_103 E Q) := by
  unfold bX9_isLess_103
  exact s_ireturn G dX9_isLess_103
set_option maxHeartbeats 4000000 in
theorem tX9_isLess_91 {x : CX} {E : Nat → Value} {Q : Rs → HS → Prop} (EN : EX x E) (G : Gd x cX9_isLess "ChantRules$Way" yX9_isLess 6 (Option.some Jvm.ClassFile.FieldType.boolean) Q) (hF : x.1.2.2.2.frames = 404 ∧ x.1.2.2.2.locals = 8909) (hC : x.2.2.2.2.2 = (fun _ => false)) (hxt : (∀ z ∈ x.2.2.1.2.1.exceptionTable.toList, False)) : Snd x 91 (bX9_isLess_91 E Q) := by
  unfold bX9_isLess_91
  refine s_aload_n rfl G.b dX9_isLess_91 ?_
  refine s_getf G.b G.ow G.kn (G.hts _ q1003) (fun _ h => h) fa_52 dX9_isLess_92 ?_
  refine s_iload_n rfl G.b dX9_isLess_95 ?_
  refine s_aload_n rfl G.b dX9_isLess_96 ?_
  refine s_getf G.b G.ow G.kn (G.hts _ q1003) (fun _ h => h) fa_52 dX9_isLess_97 ?_
  refine s_callS G (mX10_isAhead EN) q1029 q1030 q104 q1031 nmk_101 (rm_of hF (Nat.le_of_ble_eq_true rfl) (Nat.le_of_ble_eq_true rfl)) dX9_isLess_100 ?_ (sx_out G (fun z hz => (hxt z hz).elim))
  exact (tX9_isLess_103 EN G hF hC hxt)
set_option maxHeartbeats 4000000 in
theorem tX9_isLess_87 {x : CX} {E : Nat → Value} {Q : Rs → HS → Prop} (EN : EX x E) (G : Gd x cX9_isLess "ChantRules$Way" yX9_isLess 6 (Option.some Jvm.ClassFile.FieldType.boolean) Q) (hF : x.1.2.2.2.frames = 404 ∧ x.1.2.2.2.locals = 8909) (hC : x.2.2.2.2.2 = (fun _ => false)) (hxt : (∀ z ∈ x.2.2.1.2.1.exceptionTable.toList, False)) : Snd x 87 (bX9_isLess_87 E Q) := by
  unfold bX9_isLess_87
  refine s_iconst (by decide) G.b dX9_isLess_87 ?_
  exact s_goto (tgt := 103) G.b dX9_isLess_88 (by decide) (tX9_isLess_103 EN G hF hC hxt)
set_option maxHeartbeats 4000000 in
theorem tX9_isLess_57 {x : CX} {E : Nat → Value} {Q : Rs → HS → Prop} (EN : EX x E) (G : Gd x cX9_isLess "ChantRules$Way" yX9_isLess 6 (Option.some Jvm.ClassFile.FieldType.boolean) Q) (hF : x.1.2.2.2.frames = 404 ∧ x.1.2.2.2.locals = 8909) (hC : x.2.2.2.2.2 = (fun _ => false)) (hxt : (∀ z ∈ x.2.2.1.2.1.exceptionTable.toList, False)) : Snd x 57 (bX9_isLess_57 E Q) := by
  unfold bX9_isLess_57
  refine s_iadd G.b dX9_isLess_57 ?_
  refine s_istore G.b (by rw [G.nl]; decide) (fun _ _ => by rw [hC]) dX9_isLess_58 ?_
  refine s_aload_n rfl G.b dX9_isLess_60 ?_
  refine s_getf G.b G.ow G.kn (G.hts _ q1003) (fun _ h => h) fa_52 dX9_isLess_61 ?_
  refine s_callS G (mX10_lengthOf EN) q1026 q1027 q104 q1028 nmk_102 (rm_of hF (Nat.le_of_ble_eq_true rfl) (Nat.le_of_ble_eq_true rfl)) dX9_isLess_64 ?_ (sx_out G (fun z hz => (hxt z hz).elim))
  refine s_istore G.b (by rw [G.nl]; decide) (fun _ _ => by rw [hC]) dX9_isLess_67 ?_
  refine s_iload G.b dX9_isLess_69 ?_
  refine s_iload G.b dX9_isLess_71 ?_
  refine s_icmpeq (tgt := 91) G.b dX9_isLess_73 (by decide) (tX9_isLess_91 EN G hF hC hxt) ?_
  refine s_iload G.b dX9_isLess_76 ?_
  refine s_iload G.b dX9_isLess_78 ?_
  refine s_icmpge (tgt := 87) G.b dX9_isLess_80 (by decide) (tX9_isLess_87 EN G hF hC hxt) ?_
  refine s_iconst (by decide) G.b dX9_isLess_83 ?_
  exact s_goto (tgt := 103) G.b dX9_isLess_84 (by decide) (tX9_isLess_103 EN G hF hC hxt)
set_option maxHeartbeats 4000000 in
theorem tX9_isLess_56 {x : CX} {E : Nat → Value} {Q : Rs → HS → Prop} (EN : EX x E) (G : Gd x cX9_isLess "ChantRules$Way" yX9_isLess 6 (Option.some Jvm.ClassFile.FieldType.boolean) Q) (hF : x.1.2.2.2.frames = 404 ∧ x.1.2.2.2.locals = 8909) (hC : x.2.2.2.2.2 = (fun _ => false)) (hxt : (∀ z ∈ x.2.2.1.2.1.exceptionTable.toList, False)) : Snd x 56 (bX9_isLess_56 E Q) := by
  unfold bX9_isLess_56
  refine s_iconst (by decide) G.b dX9_isLess_56 ?_
  exact (tX9_isLess_57 EN G hF hC hxt)
set_option maxHeartbeats 4000000 in
theorem tX9_isLess_40 {x : CX} {E : Nat → Value} {Q : Rs → HS → Prop} (EN : EX x E) (G : Gd x cX9_isLess "ChantRules$Way" yX9_isLess 6 (Option.some Jvm.ClassFile.FieldType.boolean) Q) (hF : x.1.2.2.2.frames = 404 ∧ x.1.2.2.2.locals = 8909) (hC : x.2.2.2.2.2 = (fun _ => false)) (hxt : (∀ z ∈ x.2.2.1.2.1.exceptionTable.toList, False)) : Snd x 40 (bX9_isLess_40 E Q) := by
  unfold bX9_isLess_40
  refine s_aload_n rfl G.b dX9_isLess_40 ?_
  refine s_getf G.b G.ow G.kn (G.hts _ q1003) (fun _ h => h) fa_52 dX9_isLess_41 ?_
  refine s_callS G (mX10_lengthOf EN) q1026 q1027 q104 q1028 nmk_102 (rm_of hF (Nat.le_of_ble_eq_true rfl) (Nat.le_of_ble_eq_true rfl)) dX9_isLess_44 ?_ (sx_out G (fun z hz => (hxt z hz).elim))
  refine s_iload_n rfl G.b dX9_isLess_47 ?_
  refine s_iconst (by decide) G.b dX9_isLess_48 ?_
  refine s_icmpne (tgt := 56) G.b dX9_isLess_49 (by decide) (tX9_isLess_56 EN G hF hC hxt) ?_
  refine s_iconst (by decide) G.b dX9_isLess_52 ?_
  exact s_goto (tgt := 57) G.b dX9_isLess_53 (by decide) (tX9_isLess_57 EN G hF hC hxt)
set_option maxHeartbeats 4000000 in
theorem tX9_isLess_39 {x : CX} {E : Nat → Value} {Q : Rs → HS → Prop} (EN : EX x E) (G : Gd x cX9_isLess "ChantRules$Way" yX9_isLess 6 (Option.some Jvm.ClassFile.FieldType.boolean) Q) (hF : x.1.2.2.2.frames = 404 ∧ x.1.2.2.2.locals = 8909) (hC : x.2.2.2.2.2 = (fun _ => false)) (hxt : (∀ z ∈ x.2.2.1.2.1.exceptionTable.toList, False)) : Snd x 39 (bX9_isLess_39 E Q) := by
  unfold bX9_isLess_39
  exact s_ireturn G dX9_isLess_39
set_option maxHeartbeats 4000000 in
theorem tX9_isLess_38 {x : CX} {E : Nat → Value} {Q : Rs → HS → Prop} (EN : EX x E) (G : Gd x cX9_isLess "ChantRules$Way" yX9_isLess 6 (Option.some Jvm.ClassFile.FieldType.boolean) Q) (hF : x.1.2.2.2.frames = 404 ∧ x.1.2.2.2.locals = 8909) (hC : x.2.2.2.2.2 = (fun _ => false)) (hxt : (∀ z ∈ x.2.2.1.2.1.exceptionTable.toList, False)) : Snd x 38 (bX9_isLess_38 E Q) := by
  unfold bX9_isLess_38
  refine s_iconst (by decide) G.b dX9_isLess_38 ?_
  exact (tX9_isLess_39 EN G hF hC hxt)
set_option maxHeartbeats 4000000 in
theorem tX9_isLess_34 {x : CX} {E : Nat → Value} {Q : Rs → HS → Prop} (EN : EX x E) (G : Gd x cX9_isLess "ChantRules$Way" yX9_isLess 6 (Option.some Jvm.ClassFile.FieldType.boolean) Q) (hF : x.1.2.2.2.frames = 404 ∧ x.1.2.2.2.locals = 8909) (hC : x.2.2.2.2.2 = (fun _ => false)) (hxt : (∀ z ∈ x.2.2.1.2.1.exceptionTable.toList, False)) : Snd x 34 (bX9_isLess_34 E Q) := by
  unfold bX9_isLess_34
  refine s_iconst (by decide) G.b dX9_isLess_34 ?_
  exact s_goto (tgt := 39) G.b dX9_isLess_35 (by decide) (tX9_isLess_39 EN G hF hC hxt)
set_option maxHeartbeats 4000000 in
theorem tX9_isLess_17 {x : CX} {E : Nat → Value} {Q : Rs → HS → Prop} (EN : EX x E) (G : Gd x cX9_isLess "ChantRules$Way" yX9_isLess 6 (Option.some Jvm.ClassFile.FieldType.boolean) Q) (hF : x.1.2.2.2.frames = 404 ∧ x.1.2.2.2.locals = 8909) (hC : x.2.2.2.2.2 = (fun _ => false)) (hxt : (∀ z ∈ x.2.2.1.2.1.exceptionTable.toList, False)) : Snd x 17 (bX9_isLess_17 E Q) := by
  unfold bX9_isLess_17
  refine s_aload_n rfl G.b dX9_isLess_17 ?_
  refine s_ifnull (tgt := 34) G.b dX9_isLess_18 (by decide) (tX9_isLess_34 EN G hF hC hxt) ?_
  refine s_aload_n rfl G.b dX9_isLess_21 ?_
  refine s_getf G.b G.ow G.kn (G.hts _ q1001) (fun _ h => h) fa_45 dX9_isLess_22 ?_
  refine s_iload_n rfl G.b dX9_isLess_25 ?_
  refine s_iadd G.b dX9_isLess_26 ?_
  refine s_aload_n rfl G.b dX9_isLess_27 ?_
  refine s_getf G.b G.ow G.kn (G.hts _ q1001) (fun _ h => h) fa_45 dX9_isLess_28 ?_
  refine s_icmpge (tgt := 38) G.b dX9_isLess_31 (by decide) (tX9_isLess_38 EN G hF hC hxt) ?_
  exact (tX9_isLess_34 EN G hF hC hxt)
set_option maxHeartbeats 4000000 in
theorem tX9_isLess_0 {x : CX} {E : Nat → Value} {Q : Rs → HS → Prop} (EN : EX x E) (G : Gd x cX9_isLess "ChantRules$Way" yX9_isLess 6 (Option.some Jvm.ClassFile.FieldType.boolean) Q) (hF : x.1.2.2.2.frames = 404 ∧ x.1.2.2.2.locals = 8909) (hC : x.2.2.2.2.2 = (fun _ => false)) (hxt : (∀ z ∈ x.2.2.1.2.1.exceptionTable.toList, False)) : Snd x 0 (bX9_isLess_0 E Q) := by
  unfold bX9_isLess_0
  refine s_aload_n rfl G.b dX9_isLess_0 ?_
  refine s_ifnull (tgt := 17) G.b dX9_isLess_1 (by decide) (tX9_isLess_17 EN G hF hC hxt) ?_
  refine s_aload_n rfl G.b dX9_isLess_4 ?_
  refine s_getf G.b G.ow G.kn (G.hts _ q1001) (fun _ h => h) fa_45 dX9_isLess_5 ?_
  refine s_iload_n rfl G.b dX9_isLess_8 ?_
  refine s_iadd G.b dX9_isLess_9 ?_
  refine s_aload_n rfl G.b dX9_isLess_10 ?_
  refine s_getf G.b G.ow G.kn (G.hts _ q1001) (fun _ h => h) fa_45 dX9_isLess_11 ?_
  refine s_icmpeq (tgt := 40) G.b dX9_isLess_14 (by decide) (tX9_isLess_40 EN G hF hC hxt) ?_
  exact (tX9_isLess_17 EN G hF hC hxt)
set_option maxHeartbeats 4000000 in
theorem mX9_isLess {l : Launch} {D : DE} {s0 : State} {E : Nat → Value} (EN : EV l D s0 E) : rMet l D s0 yX9_isLess (ws_ yX9_isLess cX9_isLess 6 (Option.some Jvm.ClassFile.FieldType.boolean)) 404 8909 (wX9_isLess E) := by
  refine body_met (fun _ => false) EN.kn (fun w h => h) (by decide +kernel) rfl (fun av h Q hw => ?_) ?_
  · unfold wX9_isLess at hw
    split at hw
    · exact Nat.le_of_ble_eq_true rfl
    · exact hw.elim
  · intro p e s m below meth c av h Q hxt G hw
    unfold wX9_isLess at hw
    split at hw
    · exact tX9_isLess_0 EN G ⟨rfl, rfl⟩ rfl hxt _ _ _ hw
    · exact hw.elim
/-! ChantRules$Letter.<init>(LChantRules$Letter;I)V (X10_init) -/
def bX10_init_0 (E : Nat → Value) (Q : Rs → HS → Prop) : Ct :=
  o_aload 0 <|
  o_objInit <|
  o_aload 0 <|
  o_aload 1 <|
  o_putf [3] 0 (.object "ChantRules$Letter") <|
  o_aload 0 <|
  o_iload 2 <|
  o_putf [3] 1 .int <|
  o_aload 0 <|
  o_aload 1 <|
  o_call 1 (wX10_lengthOf E) (x_out Q) <|
  o_push (.int 1) <|
  o_iadd <|
  o_putf [3] 2 .int <|
  o_return Q
def wX10_init (E : Nat → Value) : Wp := fun av h Q => match av with
  | [a0, a1, a2] => bX10_init_0 E Q [a0, a1, a2] [] h
  | _ => False
set_option maxHeartbeats 4000000 in
theorem tX10_init_0 {x : CX} {E : Nat → Value} {Q : Rs → HS → Prop} (EN : EX x E) (G : Gd x cX10_init "ChantRules$Letter" yX10_init 3 (Option.none : Option Jvm.ClassFile.FieldType) Q) (hF : x.1.2.2.2.frames = 3 ∧ x.1.2.2.2.locals = 84) (hC : x.2.2.2.2.2 = (fun _ => false)) (hxt : (∀ z ∈ x.2.2.1.2.1.exceptionTable.toList, False)) : Snd x 0 (bX10_init_0 E Q) := by
  unfold bX10_init_0
  refine s_aload_n rfl G.b dX10_init_0 ?_
  refine s_objInit G.b G.ow G.hts q1045 q122 q123 G.ml (by rw [hF.1]; decide) (by rw [hF.2]; decide) dX10_init_1 ?_
  refine s_aload_n rfl G.b dX10_init_4 ?_
  refine s_aload_n rfl G.b dX10_init_5 ?_
  refine s_putfF (r0 := (RX10, TX10, 3)) G.b G.ow G.kn (G.hts _ q1047) (by rw [G.name]; rfl) rfl (by decide) (by decide) rfl (G.hts _ q1050) (by decide +kernel) dX10_init_6 ?_
  refine s_aload_n rfl G.b dX10_init_9 ?_
  refine s_iload_n rfl G.b dX10_init_10 ?_
  refine s_putfF (r0 := (RX10, TX10, 3)) G.b G.ow G.kn (G.hts _ q1048) (by rw [G.name]; rfl) rfl (by decide) (by decide) rfl (G.hts _ q1052) (by decide +kernel) dX10_init_11 ?_
  refine s_aload_n rfl G.b dX10_init_14 ?_
  refine s_aload_n rfl G.b dX10_init_15 ?_
  refine s_callS G (mX10_lengthOf EN) q1046 q1027 q104 q1028 nmk_102 (rm_of hF (Nat.le_of_ble_eq_true rfl) (Nat.le_of_ble_eq_true rfl)) dX10_init_16 ?_ (sx_out G (fun z hz => (hxt z hz).elim))
  refine s_iconst (by decide) G.b dX10_init_19 ?_
  refine s_iadd G.b dX10_init_20 ?_
  refine s_putfF (r0 := (RX10, TX10, 3)) G.b G.ow G.kn (G.hts _ q1049) (by rw [G.name]; rfl) rfl (by decide) (by decide) rfl (G.hts _ q1054) (by decide +kernel) dX10_init_21 ?_
  exact s_return G dX10_init_24
set_option maxHeartbeats 4000000 in
theorem mX10_init {l : Launch} {D : DE} {s0 : State} {E : Nat → Value} (EN : EV l D s0 E) : rMet l D s0 yX10_init (ws_ yX10_init cX10_init 3 (Option.none : Option Jvm.ClassFile.FieldType)) 3 84 (wX10_init E) := by
  refine body_met (fun _ => false) EN.kn (fun w h => h) (by decide +kernel) rfl (fun av h Q hw => ?_) ?_
  · unfold wX10_init at hw
    split at hw
    · exact Nat.le_of_ble_eq_true rfl
    · exact hw.elim
  · intro p e s m below meth c av h Q hxt G hw
    unfold wX10_init at hw
    split at hw
    · exact tX10_init_0 EN G ⟨rfl, rfl⟩ rfl hxt _ _ _ hw
    · exact hw.elim
/-! ChantRules$Way.<init>(ILChantRules$Letter;)V (X9_init) -/
def bX9_init_0 (E : Nat → Value) (Q : Rs → HS → Prop) : Ct :=
  o_aload 0 <|
  o_objInit <|
  o_aload 0 <|
  o_iload 1 <|
  o_putf [12] 0 .int <|
  o_aload 0 <|
  o_aload 2 <|
  o_putf [12] 1 (.object "ChantRules$Letter") <|
  o_return Q
def wX9_init (E : Nat → Value) : Wp := fun av h Q => match av with
  | [a0, a1, a2] => bX9_init_0 E Q [a0, a1, a2] [] h
  | _ => False
set_option maxHeartbeats 4000000 in
theorem tX9_init_0 {x : CX} {E : Nat → Value} {Q : Rs → HS → Prop} (EN : EX x E) (G : Gd x cX9_init "ChantRules$Way" yX9_init 3 (Option.none : Option Jvm.ClassFile.FieldType) Q) (hF : x.1.2.2.2.frames = 2 ∧ x.1.2.2.2.locals = 64) (hC : x.2.2.2.2.2 = (fun _ => false)) (hxt : (∀ z ∈ x.2.2.1.2.1.exceptionTable.toList, False)) : Snd x 0 (bX9_init_0 E Q) := by
  unfold bX9_init_0
  refine s_aload_n rfl G.b dX9_init_0 ?_
  refine s_objInit G.b G.ow G.hts q1000 q122 q123 G.ml (by rw [hF.1]; decide) (by rw [hF.2]; decide) dX9_init_1 ?_
  refine s_aload_n rfl G.b dX9_init_4 ?_
  refine s_iload_n rfl G.b dX9_init_5 ?_
  refine s_putfF (r0 := (RX9, TX9, 2)) G.b G.ow G.kn (G.hts _ q1001) (by rw [G.name]; rfl) rfl (by decide) (by decide) rfl (G.hts _ q1005) (by decide +kernel) dX9_init_6 ?_
  refine s_aload_n rfl G.b dX9_init_9 ?_
  refine s_aload_n rfl G.b dX9_init_10 ?_
  refine s_putfF (r0 := (RX9, TX9, 2)) G.b G.ow G.kn (G.hts _ q1003) (by rw [G.name]; rfl) rfl (by decide) (by decide) rfl (G.hts _ q1007) (by decide +kernel) dX9_init_11 ?_
  exact s_return G dX9_init_14
set_option maxHeartbeats 4000000 in
theorem mX9_init {l : Launch} {D : DE} {s0 : State} {E : Nat → Value} (EN : EV l D s0 E) : rMet l D s0 yX9_init (ws_ yX9_init cX9_init 3 (Option.none : Option Jvm.ClassFile.FieldType)) 2 64 (wX9_init E) := by
  refine body_met (fun _ => false) EN.kn (fun w h => h) (by decide +kernel) rfl (fun av h Q hw => ?_) ?_
  · unfold wX9_init at hw
    split at hw
    · exact Nat.le_of_ble_eq_true rfl
    · exact hw.elim
  · intro p e s m below meth c av h Q hxt G hw
    unfold wX9_init at hw
    split at hw
    · exact tX9_init_0 EN G ⟨rfl, rfl⟩ rfl hxt _ _ _ hw
    · exact hw.elim
/-! ChantRules$Way.over(II)LChantRules$Way; (X9_over) -/
theorem nmk_103 : nm_ok yX9_init 2 := ⟨by decide +kernel, by decide +kernel, by decide +kernel⟩
theorem nmk_104 : nm_ok yX10_init 2 := ⟨by decide +kernel, by decide +kernel, by decide +kernel⟩
def bX9_over_34 (E : Nat → Value) (Q : Rs → HS → Prop) : Ct :=
  o_callI 3 (wX9_init E) (x_out Q) <|
  o_areturn Q
def bX9_over_22 (E : Nat → Value) (Q : Rs → HS → Prop) : Ct :=
  o_new 3 3 [.null, .int 0, .int 0] <|
  o_dup <|
  o_aload 0 <|
  o_getf [12] 1 <|
  o_iload 2 <|
  o_callI 3 (wX10_init E) (x_out Q) <|
  (bX9_over_34 E Q)
def bX9_over_0 (E : Nat → Value) (Q : Rs → HS → Prop) : Ct :=
  o_new 12 2 [.int 0, .null] <|
  o_dup <|
  o_aload 0 <|
  o_getf [12] 0 <|
  o_iload 1 <|
  o_iadd <|
  o_iload 2 <|
  o_push (.int 4) <|
  o_icmpne (bX9_over_22 E Q) <|
  o_aload 0 <|
  o_getf [12] 1 <|
  (bX9_over_34 E Q)
def wX9_over (E : Nat → Value) : Wp := fun av h Q => match av with
  | [a0, a1, a2] => bX9_over_0 E Q [a0, a1, a2] [] h
  | _ => False
set_option maxHeartbeats 4000000 in
theorem tX9_over_34 {x : CX} {E : Nat → Value} {Q : Rs → HS → Prop} (EN : EX x E) (G : Gd x cX9_over "ChantRules$Way" yX9_over 3 (Option.some (Jvm.ClassFile.FieldType.object "ChantRules$Way")) Q) (hF : x.1.2.2.2.frames = 4 ∧ x.1.2.2.2.locals = 106) (hC : x.2.2.2.2.2 = (fun _ => false)) (hxt : (∀ z ∈ x.2.2.1.2.1.exceptionTable.toList, False)) : Snd x 34 (bX9_over_34 E Q) := by
  unfold bX9_over_34
  refine s_callI G (mX9_init EN) rfl q1057 q998 q103 q999 nmk_103 (rm_of hF (Nat.le_of_ble_eq_true rfl) (Nat.le_of_ble_eq_true rfl)) dX9_over_34 ?_ (sx_out G (fun z hz => (hxt z hz).elim))
  exact s_areturn (Or.inl ⟨_, rfl⟩) G dX9_over_37
set_option maxHeartbeats 4000000 in
theorem tX9_over_22 {x : CX} {E : Nat → Value} {Q : Rs → HS → Prop} (EN : EX x E) (G : Gd x cX9_over "ChantRules$Way" yX9_over 3 (Option.some (Jvm.ClassFile.FieldType.object "ChantRules$Way")) Q) (hF : x.1.2.2.2.frames = 4 ∧ x.1.2.2.2.locals = 106) (hC : x.2.2.2.2.2 = (fun _ => false)) (hxt : (∀ z ∈ x.2.2.1.2.1.exceptionTable.toList, False)) : Snd x 22 (bX9_over_22 E Q) := by
  unfold bX9_over_22
  refine s_new (C := RX10) (T0 := TX10) (N := 3) G.b G.ow G.kn G.gr G.hts rfl (by decide) in_X10 q1040 q1041 q104 tyX10 tyX10_ok rfl dX9_over_22 ?_
  refine s_dup G.b dX9_over_25 ?_
  refine s_aload_n rfl G.b dX9_over_26 ?_
  refine s_getf G.b G.ow G.kn (G.hts _ q1003) (fun _ h => h) fa_52 dX9_over_27 ?_
  refine s_iload_n rfl G.b dX9_over_30 ?_
  refine s_callI G (mX10_init EN) rfl q1042 q1043 q104 q1044 nmk_104 (rm_of hF (Nat.le_of_ble_eq_true rfl) (Nat.le_of_ble_eq_true rfl)) dX9_over_31 ?_ (sx_out G (fun z hz => (hxt z hz).elim))
  exact (tX9_over_34 EN G hF hC hxt)
set_option maxHeartbeats 4000000 in
theorem tX9_over_0 {x : CX} {E : Nat → Value} {Q : Rs → HS → Prop} (EN : EX x E) (G : Gd x cX9_over "ChantRules$Way" yX9_over 3 (Option.some (Jvm.ClassFile.FieldType.object "ChantRules$Way")) Q) (hF : x.1.2.2.2.frames = 4 ∧ x.1.2.2.2.locals = 106) (hC : x.2.2.2.2.2 = (fun _ => false)) (hxt : (∀ z ∈ x.2.2.1.2.1.exceptionTable.toList, False)) : Snd x 0 (bX9_over_0 E Q) := by
  unfold bX9_over_0
  refine s_new (C := RX9) (T0 := TX9) (N := 2) G.b G.ow G.kn G.gr G.hts rfl (by decide) in_X9 q1039 q996 q103 tyX9 tyX9_ok rfl dX9_over_0 ?_
  refine s_dup G.b dX9_over_3 ?_
  refine s_aload_n rfl G.b dX9_over_4 ?_
  refine s_getf G.b G.ow G.kn (G.hts _ q1001) (fun _ h => h) fa_45 dX9_over_5 ?_
  refine s_iload_n rfl G.b dX9_over_8 ?_
  refine s_iadd G.b dX9_over_9 ?_
  refine s_iload_n rfl G.b dX9_over_10 ?_
  refine s_iconst (by decide) G.b dX9_over_11 ?_
  refine s_icmpne (tgt := 22) G.b dX9_over_12 (by decide) (tX9_over_22 EN G hF hC hxt) ?_
  refine s_aload_n rfl G.b dX9_over_15 ?_
  refine s_getf G.b G.ow G.kn (G.hts _ q1003) (fun _ h => h) fa_52 dX9_over_16 ?_
  exact s_goto (tgt := 34) G.b dX9_over_19 (by decide) (tX9_over_34 EN G hF hC hxt)
set_option maxHeartbeats 4000000 in
theorem mX9_over {l : Launch} {D : DE} {s0 : State} {E : Nat → Value} (EN : EV l D s0 E) : rMet l D s0 yX9_over (ws_ yX9_over cX9_over 3 (Option.some (Jvm.ClassFile.FieldType.object "ChantRules$Way"))) 4 106 (wX9_over E) := by
  refine body_met (fun _ => false) EN.kn (fun w h => h) (by decide +kernel) rfl (fun av h Q hw => ?_) ?_
  · unfold wX9_over at hw
    split at hw
    · exact Nat.le_of_ble_eq_true rfl
    · exact hw.elim
  · intro p e s m below meth c av h Q hxt G hw
    unfold wX9_over at hw
    split at hw
    · exact tX9_over_0 EN G ⟨rfl, rfl⟩ rfl hxt _ _ _ hw
    · exact hw.elim
/-! ChantRules$Machine.goesOver(LChantRules$Arc;[LChantRules$Way;II)Z (X2_goesOver) -/
theorem nmk_105 : nm_ok yX9_over 2 := ⟨by decide +kernel, by decide +kernel, by decide +kernel⟩
theorem nmk_106 : nm_ok yX9_isLess 3 := ⟨by decide +kernel, by decide +kernel, by decide +kernel⟩
def bX2_goesOver_92 (E : Nat → Value) (Q : Rs → HS → Prop) : Ct :=
  o_iload 7 <|
  o_ireturn .boolean Q
def bX2_goesOver_88 (E : Nat → Value) (Q : Rs → HS → Prop) : Ct :=
  o_callV [12] 3 (wX9_over E) (x_out Q) <|
  o_aast <|
  (bX2_goesOver_92 E Q)
def bX2_goesOver_82 (E : Nat → Value) (Q : Rs → HS → Prop) : Ct :=
  o_aload 1 <|
  o_vsel 1 [10] (o_callV [10] 1 (wX7_sings E) (x_out Q) (bX2_goesOver_88 E Q)) (o_callV [11] 1 (wX8_sings E) (x_out Q) (bX2_goesOver_88 E Q))
def bX2_goesOver_73 (E : Nat → Value) (Q : Rs → HS → Prop) : Ct :=
  o_iadd <|
  o_aload 5 <|
  o_aload 1 <|
  o_vsel 1 [10] (o_callV [10] 1 (wX7_weight E) (x_out Q) (bX2_goesOver_82 E Q)) (o_callV [11] 1 (wX8_weight E) (x_out Q) (bX2_goesOver_82 E Q))
def bX2_goesOver_57 (E : Nat → Value) (Q : Rs → HS → Prop) : Ct :=
  o_istore 7 <|
  o_iload 7 <|
  o_ifeq (bX2_goesOver_92 E Q) <|
  o_aload 2 <|
  o_iload 4 <|
  o_aload 1 <|
  o_vsel 1 [10] (o_callV [10] 1 (wX7_to E) (x_out Q) (bX2_goesOver_73 E Q)) (o_callV [11] 1 (wX8_to E) (x_out Q) (bX2_goesOver_73 E Q))
def bX2_goesOver_56 (E : Nat → Value) (Q : Rs → HS → Prop) : Ct :=
  o_push (.int 0) <|
  (bX2_goesOver_57 E Q)
def bX2_goesOver_44 (E : Nat → Value) (Q : Rs → HS → Prop) : Ct :=
  o_aload 6 <|
  o_callV [12] 4 (wX9_isLess E) (x_out Q) <|
  o_ifeq (bX2_goesOver_56 E Q) <|
  o_push (.int 1) <|
  (bX2_goesOver_57 E Q)
def bX2_goesOver_38 (E : Nat → Value) (Q : Rs → HS → Prop) : Ct :=
  o_aload 1 <|
  o_vsel 1 [10] (o_callV [10] 1 (wX7_sings E) (x_out Q) (bX2_goesOver_44 E Q)) (o_callV [11] 1 (wX8_sings E) (x_out Q) (bX2_goesOver_44 E Q))
def bX2_goesOver_21 (E : Nat → Value) (Q : Rs → HS → Prop) : Ct :=
  o_iadd <|
  o_ald [103, 104, 105, 106, 107] <|
  o_astore 6 <|
  o_aload 5 <|
  o_ifnull (bX2_goesOver_56 E Q) <|
  o_aload 5 <|
  o_aload 1 <|
  o_vsel 1 [10] (o_callV [10] 1 (wX7_weight E) (x_out Q) (bX2_goesOver_38 E Q)) (o_callV [11] 1 (wX8_weight E) (x_out Q) (bX2_goesOver_38 E Q))
def bX2_goesOver_8 (E : Nat → Value) (Q : Rs → HS → Prop) : Ct :=
  o_iadd <|
  o_ald [103, 104, 105, 106, 107] <|
  o_astore 5 <|
  o_aload 2 <|
  o_iload 4 <|
  o_aload 1 <|
  o_vsel 1 [10] (o_callV [10] 1 (wX7_to E) (x_out Q) (bX2_goesOver_21 E Q)) (o_callV [11] 1 (wX8_to E) (x_out Q) (bX2_goesOver_21 E Q))
def bX2_goesOver_0 (E : Nat → Value) (Q : Rs → HS → Prop) : Ct :=
  o_aload 2 <|
  o_iload 3 <|
  o_aload 1 <|
  o_vsel 1 [10] (o_callV [10] 1 (wX7_from E) (x_out Q) (bX2_goesOver_8 E Q)) (o_callV [11] 1 (wX8_from E) (x_out Q) (bX2_goesOver_8 E Q))
def wX2_goesOver (E : Nat → Value) : Wp := fun av h Q => match av with
  | [a0, a1, a2, a3, a4] => bX2_goesOver_0 E Q [a0, a1, a2, a3, a4, jk, jk, jk] [] h
  | _ => False
set_option maxHeartbeats 4000000 in
theorem tX2_goesOver_92 {x : CX} {E : Nat → Value} {Q : Rs → HS → Prop} (EN : EX x E) (G : Gd x cX2_goesOver "ChantRules$Machine" yX2_goesOver 8 (Option.some Jvm.ClassFile.FieldType.boolean) Q) (hF : x.1.2.2.2.frames = 405 ∧ x.1.2.2.2.locals = 8934) (hC : x.2.2.2.2.2 = (fun _ => false)) (hxt : (∀ z ∈ x.2.2.1.2.1.exceptionTable.toList, False)) : Snd x 92 (bX2_goesOver_92 E Q) := by
  unfold bX2_goesOver_92
  refine s_iload G.b dX2_goesOver_92 ?_
  exact s_ireturn G dX2_goesOver_94
set_option maxHeartbeats 4000000 in
theorem tX2_goesOver_88 {x : CX} {E : Nat → Value} {Q : Rs → HS → Prop} (EN : EX x E) (G : Gd x cX2_goesOver "ChantRules$Machine" yX2_goesOver 8 (Option.some Jvm.ClassFile.FieldType.boolean) Q) (hF : x.1.2.2.2.frames = 405 ∧ x.1.2.2.2.locals = 8934) (hC : x.2.2.2.2.2 = (fun _ => false)) (hxt : (∀ z ∈ x.2.2.1.2.1.exceptionTable.toList, False)) : Snd x 88 (bX2_goesOver_88 E Q) := by
  unfold bX2_goesOver_88
  refine s_callV G (mX9_over EN) q1035 q1036 (sel_cons (r := (RX9, TX9, 2)) (by decide) rfl q1037 (sel_nil)) q103 q1038 nmk_105 (rm_of hF (Nat.le_of_ble_eq_true rfl) (Nat.le_of_ble_eq_true rfl)) dX2_goesOver_88 ?_ (sx_out G (fun z hz => (hxt z hz).elim))
  refine s_aast G.b G.kn dX2_goesOver_91 ?_
  exact (tX2_goesOver_92 EN G hF hC hxt)
set_option maxHeartbeats 4000000 in
theorem tX2_goesOver_82 {x : CX} {E : Nat → Value} {Q : Rs → HS → Prop} (EN : EX x E) (G : Gd x cX2_goesOver "ChantRules$Machine" yX2_goesOver 8 (Option.some Jvm.ClassFile.FieldType.boolean) Q) (hF : x.1.2.2.2.frames = 405 ∧ x.1.2.2.2.locals = 8934) (hC : x.2.2.2.2.2 = (fun _ => false)) (hxt : (∀ z ∈ x.2.2.1.2.1.exceptionTable.toList, False)) : Snd x 82 (bX2_goesOver_82 E Q) := by
  unfold bX2_goesOver_82
  refine s_aload_n rfl G.b dX2_goesOver_82 ?_
  exact (s_vsel (s_callF (r0 := (RX7, TX7, 4)) (w := ⟨"ChantRules$Arc", "sings", "()I"⟩) (by decide) rfl G (mX7_sings EN) q1021 (va_Fw.moved (by decide +kernel) G.warm.alike ⟨(EN.nw q740 rfl), (EN.nw q739 rfl), (EN.nw q744 rfl), (EN.nw q742 rfl), (EN.nw q287 rfl)⟩) q741 q743 q99 q745 nmk_68 (rm_of hF (Nat.le_of_ble_eq_true rfl) (Nat.le_of_ble_eq_true rfl)) dX2_goesOver_83 (tX2_goesOver_88 EN G hF hC hxt) (sx_out G (fun z hz => (hxt z hz).elim)) ) (s_callF (r0 := (RX8, TX8, 5)) (w := ⟨"ChantRules$Arc", "sings", "()I"⟩) (by decide) rfl G (mX8_sings EN) q1021 (va_Fw.moved (by decide +kernel) G.warm.alike ⟨(EN.nw q740 rfl), (EN.nw q739 rfl), (EN.nw q749 rfl), (EN.nw q747 rfl), (EN.nw q293 rfl)⟩) q746 q748 q100 q750 nmk_68 (rm_of hF (Nat.le_of_ble_eq_true rfl) (Nat.le_of_ble_eq_true rfl)) dX2_goesOver_83 (tX2_goesOver_88 EN G hF hC hxt) (sx_out G (fun z hz => (hxt z hz).elim)) ))
set_option maxHeartbeats 4000000 in
theorem tX2_goesOver_73 {x : CX} {E : Nat → Value} {Q : Rs → HS → Prop} (EN : EX x E) (G : Gd x cX2_goesOver "ChantRules$Machine" yX2_goesOver 8 (Option.some Jvm.ClassFile.FieldType.boolean) Q) (hF : x.1.2.2.2.frames = 405 ∧ x.1.2.2.2.locals = 8934) (hC : x.2.2.2.2.2 = (fun _ => false)) (hxt : (∀ z ∈ x.2.2.1.2.1.exceptionTable.toList, False)) : Snd x 73 (bX2_goesOver_73 E Q) := by
  unfold bX2_goesOver_73
  refine s_iadd G.b dX2_goesOver_73 ?_
  refine s_aload G.b dX2_goesOver_74 ?_
  refine s_aload_n rfl G.b dX2_goesOver_76 ?_
  exact (s_vsel (s_callF (r0 := (RX7, TX7, 4)) (w := ⟨"ChantRules$Arc", "weight", "()I"⟩) (by decide) rfl G (mX7_weight EN) q1019 (va_Fw.moved (by decide +kernel) G.warm.alike ⟨(EN.nw q770 rfl), (EN.nw q769 rfl), (EN.nw q774 rfl), (EN.nw q772 rfl), (EN.nw q287 rfl)⟩) q771 q773 q99 q775 nmk_17 (rm_of hF (Nat.le_of_ble_eq_true rfl) (Nat.le_of_ble_eq_true rfl)) dX2_goesOver_77 (tX2_goesOver_82 EN G hF hC hxt) (sx_out G (fun z hz => (hxt z hz).elim)) ) (s_callF (r0 := (RX8, TX8, 5)) (w := ⟨"ChantRules$Arc", "weight", "()I"⟩) (by decide) rfl G (mX8_weight EN) q1019 (va_Fw.moved (by decide +kernel) G.warm.alike ⟨(EN.nw q770 rfl), (EN.nw q769 rfl), (EN.nw q779 rfl), (EN.nw q777 rfl), (EN.nw q293 rfl)⟩) q776 q778 q100 q780 nmk_17 (rm_of hF (Nat.le_of_ble_eq_true rfl) (Nat.le_of_ble_eq_true rfl)) dX2_goesOver_77 (tX2_goesOver_82 EN G hF hC hxt) (sx_out G (fun z hz => (hxt z hz).elim)) ))
set_option maxHeartbeats 4000000 in
theorem tX2_goesOver_57 {x : CX} {E : Nat → Value} {Q : Rs → HS → Prop} (EN : EX x E) (G : Gd x cX2_goesOver "ChantRules$Machine" yX2_goesOver 8 (Option.some Jvm.ClassFile.FieldType.boolean) Q) (hF : x.1.2.2.2.frames = 405 ∧ x.1.2.2.2.locals = 8934) (hC : x.2.2.2.2.2 = (fun _ => false)) (hxt : (∀ z ∈ x.2.2.1.2.1.exceptionTable.toList, False)) : Snd x 57 (bX2_goesOver_57 E Q) := by
  unfold bX2_goesOver_57
  refine s_istore G.b (by rw [G.nl]; decide) (fun _ _ => by rw [hC]) dX2_goesOver_57 ?_
  refine s_iload G.b dX2_goesOver_59 ?_
  refine s_ifeq (tgt := 92) G.b dX2_goesOver_61 (by decide) (tX2_goesOver_92 EN G hF hC hxt) ?_
  refine s_aload_n rfl G.b dX2_goesOver_64 ?_
  refine s_iload G.b dX2_goesOver_65 ?_
  refine s_aload_n rfl G.b dX2_goesOver_67 ?_
  exact (s_vsel (s_callF (r0 := (RX7, TX7, 4)) (w := ⟨"ChantRules$Arc", "to", "()I"⟩) (by decide) rfl G (mX7_to EN) q893 (va_Fw.moved (by decide +kernel) G.warm.alike ⟨(EN.nw q726 rfl), (EN.nw q725 rfl), (EN.nw q730 rfl), (EN.nw q728 rfl), (EN.nw q287 rfl)⟩) q727 q729 q99 q731 nmk_69 (rm_of hF (Nat.le_of_ble_eq_true rfl) (Nat.le_of_ble_eq_true rfl)) dX2_goesOver_68 (tX2_goesOver_73 EN G hF hC hxt) (sx_out G (fun z hz => (hxt z hz).elim)) ) (s_callF (r0 := (RX8, TX8, 5)) (w := ⟨"ChantRules$Arc", "to", "()I"⟩) (by decide) rfl G (mX8_to EN) q893 (va_Fw.moved (by decide +kernel) G.warm.alike ⟨(EN.nw q726 rfl), (EN.nw q725 rfl), (EN.nw q735 rfl), (EN.nw q733 rfl), (EN.nw q293 rfl)⟩) q732 q734 q100 q736 nmk_69 (rm_of hF (Nat.le_of_ble_eq_true rfl) (Nat.le_of_ble_eq_true rfl)) dX2_goesOver_68 (tX2_goesOver_73 EN G hF hC hxt) (sx_out G (fun z hz => (hxt z hz).elim)) ))
set_option maxHeartbeats 4000000 in
theorem tX2_goesOver_56 {x : CX} {E : Nat → Value} {Q : Rs → HS → Prop} (EN : EX x E) (G : Gd x cX2_goesOver "ChantRules$Machine" yX2_goesOver 8 (Option.some Jvm.ClassFile.FieldType.boolean) Q) (hF : x.1.2.2.2.frames = 405 ∧ x.1.2.2.2.locals = 8934) (hC : x.2.2.2.2.2 = (fun _ => false)) (hxt : (∀ z ∈ x.2.2.1.2.1.exceptionTable.toList, False)) : Snd x 56 (bX2_goesOver_56 E Q) := by
  unfold bX2_goesOver_56
  refine s_iconst (by decide) G.b dX2_goesOver_56 ?_
  exact (tX2_goesOver_57 EN G hF hC hxt)
set_option maxHeartbeats 4000000 in
theorem tX2_goesOver_44 {x : CX} {E : Nat → Value} {Q : Rs → HS → Prop} (EN : EX x E) (G : Gd x cX2_goesOver "ChantRules$Machine" yX2_goesOver 8 (Option.some Jvm.ClassFile.FieldType.boolean) Q) (hF : x.1.2.2.2.frames = 405 ∧ x.1.2.2.2.locals = 8934) (hC : x.2.2.2.2.2 = (fun _ => false)) (hxt : (∀ z ∈ x.2.2.1.2.1.exceptionTable.toList, False)) : Snd x 44 (bX2_goesOver_44 E Q) := by
  unfold bX2_goesOver_44
  refine s_aload G.b dX2_goesOver_44 ?_
  refine s_callV G (mX9_isLess EN) q1022 q1023 (sel_cons (r := (RX9, TX9, 2)) (by decide) rfl q1024 (sel_nil)) q103 q1025 nmk_106 (rm_of hF (Nat.le_of_ble_eq_true rfl) (Nat.le_of_ble_eq_true rfl)) dX2_goesOver_46 ?_ (sx_out G (fun z hz => (hxt z hz).elim))
  refine s_ifeq (tgt := 56) G.b dX2_goesOver_49 (by decide) (tX2_goesOver_56 EN G hF hC hxt) ?_
  refine s_iconst (by decide) G.b dX2_goesOver_52 ?_
  exact s_goto (tgt := 57) G.b dX2_goesOver_53 (by decide) (tX2_goesOver_57 EN G hF hC hxt)
set_option maxHeartbeats 4000000 in
theorem tX2_goesOver_38 {x : CX} {E : Nat → Value} {Q : Rs → HS → Prop} (EN : EX x E) (G : Gd x cX2_goesOver "ChantRules$Machine" yX2_goesOver 8 (Option.some Jvm.ClassFile.FieldType.boolean) Q) (hF : x.1.2.2.2.frames = 405 ∧ x.1.2.2.2.locals = 8934) (hC : x.2.2.2.2.2 = (fun _ => false)) (hxt : (∀ z ∈ x.2.2.1.2.1.exceptionTable.toList, False)) : Snd x 38 (bX2_goesOver_38 E Q) := by
  unfold bX2_goesOver_38
  refine s_aload_n rfl G.b dX2_goesOver_38 ?_
  exact (s_vsel (s_callF (r0 := (RX7, TX7, 4)) (w := ⟨"ChantRules$Arc", "sings", "()I"⟩) (by decide) rfl G (mX7_sings EN) q1021 (va_Fw.moved (by decide +kernel) G.warm.alike ⟨(EN.nw q740 rfl), (EN.nw q739 rfl), (EN.nw q744 rfl), (EN.nw q742 rfl), (EN.nw q287 rfl)⟩) q741 q743 q99 q745 nmk_68 (rm_of hF (Nat.le_of_ble_eq_true rfl) (Nat.le_of_ble_eq_true rfl)) dX2_goesOver_39 (tX2_goesOver_44 EN G hF hC hxt) (sx_out G (fun z hz => (hxt z hz).elim)) ) (s_callF (r0 := (RX8, TX8, 5)) (w := ⟨"ChantRules$Arc", "sings", "()I"⟩) (by decide) rfl G (mX8_sings EN) q1021 (va_Fw.moved (by decide +kernel) G.warm.alike ⟨(EN.nw q740 rfl), (EN.nw q739 rfl), (EN.nw q749 rfl), (EN.nw q747 rfl), (EN.nw q293 rfl)⟩) q746 q748 q100 q750 nmk_68 (rm_of hF (Nat.le_of_ble_eq_true rfl) (Nat.le_of_ble_eq_true rfl)) dX2_goesOver_39 (tX2_goesOver_44 EN G hF hC hxt) (sx_out G (fun z hz => (hxt z hz).elim)) ))
set_option maxHeartbeats 4000000 in
theorem tX2_goesOver_21 {x : CX} {E : Nat → Value} {Q : Rs → HS → Prop} (EN : EX x E) (G : Gd x cX2_goesOver "ChantRules$Machine" yX2_goesOver 8 (Option.some Jvm.ClassFile.FieldType.boolean) Q) (hF : x.1.2.2.2.frames = 405 ∧ x.1.2.2.2.locals = 8934) (hC : x.2.2.2.2.2 = (fun _ => false)) (hxt : (∀ z ∈ x.2.2.1.2.1.exceptionTable.toList, False)) : Snd x 21 (bX2_goesOver_21 E Q) := by
  unfold bX2_goesOver_21
  refine s_iadd G.b dX2_goesOver_21 ?_
  refine s_aald G.b G.kn dX2_goesOver_22 ?_
  refine s_astore G.b (by rw [G.nl]; decide) (fun _ _ => by rw [hC]) dX2_goesOver_23 ?_
  refine s_aload G.b dX2_goesOver_25 ?_
  refine s_ifnull (tgt := 56) G.b dX2_goesOver_27 (by decide) (tX2_goesOver_56 EN G hF hC hxt) ?_
  refine s_aload G.b dX2_goesOver_30 ?_
  refine s_aload_n rfl G.b dX2_goesOver_32 ?_
  exact (s_vsel (s_callF (r0 := (RX7, TX7, 4)) (w := ⟨"ChantRules$Arc", "weight", "()I"⟩) (by decide) rfl G (mX7_weight EN) q1019 (va_Fw.moved (by decide +kernel) G.warm.alike ⟨(EN.nw q770 rfl), (EN.nw q769 rfl), (EN.nw q774 rfl), (EN.nw q772 rfl), (EN.nw q287 rfl)⟩) q771 q773 q99 q775 nmk_17 (rm_of hF (Nat.le_of_ble_eq_true rfl) (Nat.le_of_ble_eq_true rfl)) dX2_goesOver_33 (tX2_goesOver_38 EN G hF hC hxt) (sx_out G (fun z hz => (hxt z hz).elim)) ) (s_callF (r0 := (RX8, TX8, 5)) (w := ⟨"ChantRules$Arc", "weight", "()I"⟩) (by decide) rfl G (mX8_weight EN) q1019 (va_Fw.moved (by decide +kernel) G.warm.alike ⟨(EN.nw q770 rfl), (EN.nw q769 rfl), (EN.nw q779 rfl), (EN.nw q777 rfl), (EN.nw q293 rfl)⟩) q776 q778 q100 q780 nmk_17 (rm_of hF (Nat.le_of_ble_eq_true rfl) (Nat.le_of_ble_eq_true rfl)) dX2_goesOver_33 (tX2_goesOver_38 EN G hF hC hxt) (sx_out G (fun z hz => (hxt z hz).elim)) ))
set_option maxHeartbeats 4000000 in
theorem tX2_goesOver_8 {x : CX} {E : Nat → Value} {Q : Rs → HS → Prop} (EN : EX x E) (G : Gd x cX2_goesOver "ChantRules$Machine" yX2_goesOver 8 (Option.some Jvm.ClassFile.FieldType.boolean) Q) (hF : x.1.2.2.2.frames = 405 ∧ x.1.2.2.2.locals = 8934) (hC : x.2.2.2.2.2 = (fun _ => false)) (hxt : (∀ z ∈ x.2.2.1.2.1.exceptionTable.toList, False)) : Snd x 8 (bX2_goesOver_8 E Q) := by
  unfold bX2_goesOver_8
  refine s_iadd G.b dX2_goesOver_8 ?_
  refine s_aald G.b G.kn dX2_goesOver_9 ?_
  refine s_astore G.b (by rw [G.nl]; decide) (fun _ _ => by rw [hC]) dX2_goesOver_10 ?_
  refine s_aload_n rfl G.b dX2_goesOver_12 ?_
  refine s_iload G.b dX2_goesOver_13 ?_
  refine s_aload_n rfl G.b dX2_goesOver_15 ?_
  exact (s_vsel (s_callF (r0 := (RX7, TX7, 4)) (w := ⟨"ChantRules$Arc", "to", "()I"⟩) (by decide) rfl G (mX7_to EN) q893 (va_Fw.moved (by decide +kernel) G.warm.alike ⟨(EN.nw q726 rfl), (EN.nw q725 rfl), (EN.nw q730 rfl), (EN.nw q728 rfl), (EN.nw q287 rfl)⟩) q727 q729 q99 q731 nmk_69 (rm_of hF (Nat.le_of_ble_eq_true rfl) (Nat.le_of_ble_eq_true rfl)) dX2_goesOver_16 (tX2_goesOver_21 EN G hF hC hxt) (sx_out G (fun z hz => (hxt z hz).elim)) ) (s_callF (r0 := (RX8, TX8, 5)) (w := ⟨"ChantRules$Arc", "to", "()I"⟩) (by decide) rfl G (mX8_to EN) q893 (va_Fw.moved (by decide +kernel) G.warm.alike ⟨(EN.nw q726 rfl), (EN.nw q725 rfl), (EN.nw q735 rfl), (EN.nw q733 rfl), (EN.nw q293 rfl)⟩) q732 q734 q100 q736 nmk_69 (rm_of hF (Nat.le_of_ble_eq_true rfl) (Nat.le_of_ble_eq_true rfl)) dX2_goesOver_16 (tX2_goesOver_21 EN G hF hC hxt) (sx_out G (fun z hz => (hxt z hz).elim)) ))
set_option maxHeartbeats 4000000 in
theorem tX2_goesOver_0 {x : CX} {E : Nat → Value} {Q : Rs → HS → Prop} (EN : EX x E) (G : Gd x cX2_goesOver "ChantRules$Machine" yX2_goesOver 8 (Option.some Jvm.ClassFile.FieldType.boolean) Q) (hF : x.1.2.2.2.frames = 405 ∧ x.1.2.2.2.locals = 8934) (hC : x.2.2.2.2.2 = (fun _ => false)) (hxt : (∀ z ∈ x.2.2.1.2.1.exceptionTable.toList, False)) : Snd x 0 (bX2_goesOver_0 E Q) := by
  unfold bX2_goesOver_0
  refine s_aload_n rfl G.b dX2_goesOver_0 ?_
  refine s_iload_n rfl G.b dX2_goesOver_1 ?_
  refine s_aload_n rfl G.b dX2_goesOver_2 ?_
  exact (s_vsel (s_callF (r0 := (RX7, TX7, 4)) (w := ⟨"ChantRules$Arc", "from", "()I"⟩) (by decide) rfl G (mX7_from EN) q891 (va_Fw.moved (by decide +kernel) G.warm.alike ⟨(EN.nw q712 rfl), (EN.nw q711 rfl), (EN.nw q716 rfl), (EN.nw q714 rfl), (EN.nw q287 rfl)⟩) q713 q715 q99 q717 nmk_70 (rm_of hF (Nat.le_of_ble_eq_true rfl) (Nat.le_of_ble_eq_true rfl)) dX2_goesOver_3 (tX2_goesOver_8 EN G hF hC hxt) (sx_out G (fun z hz => (hxt z hz).elim)) ) (s_callF (r0 := (RX8, TX8, 5)) (w := ⟨"ChantRules$Arc", "from", "()I"⟩) (by decide) rfl G (mX8_from EN) q891 (va_Fw.moved (by decide +kernel) G.warm.alike ⟨(EN.nw q712 rfl), (EN.nw q711 rfl), (EN.nw q721 rfl), (EN.nw q719 rfl), (EN.nw q293 rfl)⟩) q718 q720 q100 q722 nmk_70 (rm_of hF (Nat.le_of_ble_eq_true rfl) (Nat.le_of_ble_eq_true rfl)) dX2_goesOver_3 (tX2_goesOver_8 EN G hF hC hxt) (sx_out G (fun z hz => (hxt z hz).elim)) ))
set_option maxHeartbeats 4000000 in
theorem mX2_goesOver {l : Launch} {D : DE} {s0 : State} {E : Nat → Value} (EN : EV l D s0 E) : rMet l D s0 yX2_goesOver (ws_ yX2_goesOver cX2_goesOver 8 (Option.some Jvm.ClassFile.FieldType.boolean)) 405 8934 (wX2_goesOver E) := by
  refine body_met (fun _ => false) EN.kn (fun w h => h) (by decide +kernel) rfl (fun av h Q hw => ?_) ?_
  · unfold wX2_goesOver at hw
    split at hw
    · exact Nat.le_of_ble_eq_true rfl
    · exact hw.elim
  · intro p e s m below meth c av h Q hxt G hw
    unfold wX2_goesOver at hw
    split at hw
    · exact tX2_goesOver_0 EN G ⟨rfl, rfl⟩ rfl hxt _ _ _ hw
    · exact hw.elim
/-! ChantRules$Rule.arcs()Ljava/util/ArrayList; (X3_arcs) -/
def bX3_arcs_0 (E : Nat → Value) (Q : Rs → HS → Prop) : Ct :=
  o_aload 0 <|
  o_getf [2] 0 <|
  o_areturn Q
def wX3_arcs (E : Nat → Value) : Wp := fun av h Q => match av with
  | [a0] => bX3_arcs_0 E Q [a0] [] h
  | _ => False
set_option maxHeartbeats 4000000 in
theorem tX3_arcs_0 {x : CX} {E : Nat → Value} {Q : Rs → HS → Prop} (EN : EX x E) (G : Gd x cX3_arcs "ChantRules$Rule" yX3_arcs 1 (Option.some (Jvm.ClassFile.FieldType.object "java/util/ArrayList")) Q) (hF : x.1.2.2.2.frames = 2 ∧ x.1.2.2.2.locals = 64) (hC : x.2.2.2.2.2 = (fun _ => false)) (hxt : (∀ z ∈ x.2.2.1.2.1.exceptionTable.toList, False)) : Snd x 0 (bX3_arcs_0 E Q) := by
  unfold bX3_arcs_0
  refine s_aload_n rfl G.b dX3_arcs_0 ?_
  refine s_getf G.b G.ow G.kn (G.hts _ q175) (fun _ h => h) fa_3 dX3_arcs_1 ?_
  exact s_areturn (Or.inl ⟨_, rfl⟩) G dX3_arcs_4
set_option maxHeartbeats 4000000 in
theorem mX3_arcs {l : Launch} {D : DE} {s0 : State} {E : Nat → Value} (EN : EV l D s0 E) : rMet l D s0 yX3_arcs (ws_ yX3_arcs cX3_arcs 1 (Option.some (Jvm.ClassFile.FieldType.object "java/util/ArrayList"))) 2 64 (wX3_arcs E) := by
  refine body_met (fun _ => false) EN.kn (fun w h => h) (by decide +kernel) rfl (fun av h Q hw => ?_) ?_
  · unfold wX3_arcs at hw
    split at hw
    · exact Nat.le_of_ble_eq_true rfl
    · exact hw.elim
  · intro p e s m below meth c av h Q hxt G hw
    unfold wX3_arcs at hw
    split at hw
    · exact tX3_arcs_0 EN G ⟨rfl, rfl⟩ rfl hxt _ _ _ hw
    · exact hw.elim
/-! ChantRules$Machine.breathes([LChantRules$Way;I)V (X2_breathes) -/
theorem nmk_107 : nm_ok yX2_goesOver 4 := ⟨by decide +kernel, by decide +kernel, by decide +kernel⟩
theorem nmk_108 : nm_ok ⟨"ChantRules$Machine", "arcs", "()Ljava/util/ArrayList;"⟩ 0 := ⟨by decide +kernel, by decide +kernel, by decide +kernel⟩
def bX2_breathes_73 (E : Nat → Value) (Q : Rs → HS → Prop) (X2 X17 : Ct) : Ct :=
  o_return Q
def bX2_breathes_70 (E : Nat → Value) (Q : Rs → HS → Prop) (X2 X17 : Ct) : Ct :=
  X2
def bX2_breathes_65 (E : Nat → Value) (Q : Rs → HS → Prop) (X2 X17 : Ct) : Ct :=
  o_ior <|
  o_istore 3 <|
  X17
def bX2_breathes_64 (E : Nat → Value) (Q : Rs → HS → Prop) (X2 X17 : Ct) : Ct :=
  o_push (.int 0) <|
  (bX2_breathes_65 E Q X2 X17)
def bX2_breathes_17 (E : Nat → Value) (Q : Rs → HS → Prop) (X2 X17 : Ct) : Ct :=
  o_aload 4 <|
  o_callV [20] 1 (wJ9_hasNext E) (x_out Q) <|
  o_ifeq (bX2_breathes_70 E Q X2 X17) <|
  o_aload 4 <|
  o_callV [20] 1 (wJ9_next E) (x_out Q) <|
  o_cast [10, 11] <|
  o_astore 5 <|
  o_iload 3 <|
  o_aload 5 <|
  o_inst [10] [11] <|
  o_ifeq (bX2_breathes_64 E Q X2 X17) <|
  o_aload 0 <|
  o_aload 5 <|
  o_aload 1 <|
  o_iload 2 <|
  o_iload 2 <|
  o_callV [2, 4] 5 (wX2_goesOver E) (x_out Q) <|
  o_ifeq (bX2_breathes_64 E Q X2 X17) <|
  o_push (.int 1) <|
  (bX2_breathes_65 E Q X2 X17)
def bX2_breathes_12 (E : Nat → Value) (Q : Rs → HS → Prop) (X2 X17 : Ct) : Ct :=
  o_callV [15] 1 (wJ2_iterator E) (x_out Q) <|
  o_astore 4 <|
  X17
def bX2_breathes_2 (E : Nat → Value) (Q : Rs → HS → Prop) (X2 X17 : Ct) : Ct :=
  o_iload 3 <|
  o_ifeq (bX2_breathes_73 E Q X2 X17) <|
  o_push (.int 0) <|
  o_istore 3 <|
  o_aload 0 <|
  o_vsel 1 [2] (o_callV [2] 1 (wX3_arcs E) (x_out Q) (bX2_breathes_12 E Q X2 X17)) (o_callV [4] 1 (wX11_arcs E) (x_out Q) (bX2_breathes_12 E Q X2 X17))
def bX2_breathes_0 (E : Nat → Value) (Q : Rs → HS → Prop) (X2 X17 : Ct) : Ct :=
  o_push (.int 1) <|
  o_istore 3 <|
  X2
def wX2_breathes (E : Nat → Value) : Wp := fun av h Q => match av with
  | [a0, a1, a2] => ∀ X2 X17 : Ct, (∀ ls st h, bX2_breathes_2 E Q X2 X17 ls st h → X2 ls st h) → (∀ ls st h, bX2_breathes_17 E Q X2 X17 ls st h → X17 ls st h) → bX2_breathes_0 E Q X2 X17 [a0, a1, a2, jk, jk, jk] [] h
  | _ => False
set_option maxHeartbeats 4000000 in
theorem tX2_breathes_73 {x : CX} {E : Nat → Value} {Q : Rs → HS → Prop} {X2 X17 : Ct} (EN : EX x E) (G : Gd x cX2_breathes "ChantRules$Machine" yX2_breathes 6 (Option.none : Option Jvm.ClassFile.FieldType) Q) (hF : x.1.2.2.2.frames = 406 ∧ x.1.2.2.2.locals = 8961) (hC : x.2.2.2.2.2 = (fun _ => false)) (hxt : (∀ z ∈ x.2.2.1.2.1.exceptionTable.toList, False)) (h2 : Snd x 2 X2) (h17 : Snd x 17 X17) : Snd x 73 (bX2_breathes_73 E Q X2 X17) := by
  unfold bX2_breathes_73
  exact s_return G dX2_breathes_73
set_option maxHeartbeats 4000000 in
theorem tX2_breathes_70 {x : CX} {E : Nat → Value} {Q : Rs → HS → Prop} {X2 X17 : Ct} (EN : EX x E) (G : Gd x cX2_breathes "ChantRules$Machine" yX2_breathes 6 (Option.none : Option Jvm.ClassFile.FieldType) Q) (hF : x.1.2.2.2.frames = 406 ∧ x.1.2.2.2.locals = 8961) (hC : x.2.2.2.2.2 = (fun _ => false)) (hxt : (∀ z ∈ x.2.2.1.2.1.exceptionTable.toList, False)) (h2 : Snd x 2 X2) (h17 : Snd x 17 X17) : Snd x 70 (bX2_breathes_70 E Q X2 X17) := by
  unfold bX2_breathes_70
  exact s_goto (tgt := 2) G.b dX2_breathes_70 (by decide) h2
set_option maxHeartbeats 4000000 in
theorem tX2_breathes_65 {x : CX} {E : Nat → Value} {Q : Rs → HS → Prop} {X2 X17 : Ct} (EN : EX x E) (G : Gd x cX2_breathes "ChantRules$Machine" yX2_breathes 6 (Option.none : Option Jvm.ClassFile.FieldType) Q) (hF : x.1.2.2.2.frames = 406 ∧ x.1.2.2.2.locals = 8961) (hC : x.2.2.2.2.2 = (fun _ => false)) (hxt : (∀ z ∈ x.2.2.1.2.1.exceptionTable.toList, False)) (h2 : Snd x 2 X2) (h17 : Snd x 17 X17) : Snd x 65 (bX2_breathes_65 E Q X2 X17) := by
  unfold bX2_breathes_65
  refine s_ior G.b dX2_breathes_65 ?_
  refine s_istore_n rfl G.b (by rw [G.nl]; decide) (fun _ _ => by rw [hC]) dX2_breathes_66 ?_
  exact s_goto (tgt := 17) G.b dX2_breathes_67 (by decide) h17
set_option maxHeartbeats 4000000 in
theorem tX2_breathes_64 {x : CX} {E : Nat → Value} {Q : Rs → HS → Prop} {X2 X17 : Ct} (EN : EX x E) (G : Gd x cX2_breathes "ChantRules$Machine" yX2_breathes 6 (Option.none : Option Jvm.ClassFile.FieldType) Q) (hF : x.1.2.2.2.frames = 406 ∧ x.1.2.2.2.locals = 8961) (hC : x.2.2.2.2.2 = (fun _ => false)) (hxt : (∀ z ∈ x.2.2.1.2.1.exceptionTable.toList, False)) (h2 : Snd x 2 X2) (h17 : Snd x 17 X17) : Snd x 64 (bX2_breathes_64 E Q X2 X17) := by
  unfold bX2_breathes_64
  refine s_iconst (by decide) G.b dX2_breathes_64 ?_
  exact (tX2_breathes_65 EN G hF hC hxt h2 h17)
set_option maxHeartbeats 4000000 in
theorem tX2_breathes_17 {x : CX} {E : Nat → Value} {Q : Rs → HS → Prop} {X2 X17 : Ct} (EN : EX x E) (G : Gd x cX2_breathes "ChantRules$Machine" yX2_breathes 6 (Option.none : Option Jvm.ClassFile.FieldType) Q) (hF : x.1.2.2.2.frames = 406 ∧ x.1.2.2.2.locals = 8961) (hC : x.2.2.2.2.2 = (fun _ => false)) (hxt : (∀ z ∈ x.2.2.1.2.1.exceptionTable.toList, False)) (h2 : Snd x 2 X2) (h17 : Snd x 17 X17) : Snd x 17 (bX2_breathes_17 E Q X2 X17) := by
  unfold bX2_breathes_17
  refine s_aload G.b dX2_breathes_17 ?_
  refine s_callF (r0 := (RJ9, TJ9, 4)) (w := ⟨"java/util/Iterator", "hasNext", "()Z"⟩) (by decide) rfl G (mJ9_hasNext EN) q886 (va_Fw.moved (by decide +kernel) G.warm.alike ⟨(EN.nw q380 rfl), (EN.nw q379 rfl), (EN.nw q385 rfl), (EN.nw q383 rfl), (EN.nw q381 rfl)⟩) q382 q384 q91 q386 nmk_15 (rm_of hF (Nat.le_of_ble_eq_true rfl) (Nat.le_of_ble_eq_true rfl)) dX2_breathes_19 ?_ (sx_out G (fun z hz => (hxt z hz).elim))
  refine s_ifeq (tgt := 70) G.b dX2_breathes_24 (by decide) (tX2_breathes_70 EN G hF hC hxt h2 h17) ?_
  refine s_aload G.b dX2_breathes_27 ?_
  refine s_callF (r0 := (RJ9, TJ9, 4)) (w := ⟨"java/util/Iterator", "next", "()Ljava/lang/Object;"⟩) (by decide) rfl G (mJ9_next EN) q888 (va_Fw.moved (by decide +kernel) G.warm.alike ⟨(EN.nw q390 rfl), (EN.nw q389 rfl), (EN.nw q394 rfl), (EN.nw q392 rfl), (EN.nw q381 rfl)⟩) q391 q393 q91 q395 nmk_16 (rm_of hF (Nat.le_of_ble_eq_true rfl) (Nat.le_of_ble_eq_true rfl)) dX2_breathes_29 ?_ (sx_out G (fun z hz => (hxt z hz).elim))
  refine s_cast G.b G.ow G.kn G.hts q889 ct_1 dX2_breathes_34 ?_
  refine s_astore G.b (by rw [G.nl]; decide) (fun _ _ => by rw [hC]) dX2_breathes_37 ?_
  refine s_iload_n rfl G.b dX2_breathes_39 ?_
  refine s_aload G.b dX2_breathes_40 ?_
  refine s_inst G.b G.ow G.kn G.hts q894 ct_6y ct_6n dX2_breathes_42 ?_
  refine s_ifeq (tgt := 64) G.b dX2_breathes_45 (by decide) (tX2_breathes_64 EN G hF hC hxt h2 h17) ?_
  refine s_aload_n rfl G.b dX2_breathes_48 ?_
  refine s_aload G.b dX2_breathes_49 ?_
  refine s_aload_n rfl G.b dX2_breathes_51 ?_
  refine s_iload_n rfl G.b dX2_breathes_52 ?_
  refine s_iload_n rfl G.b dX2_breathes_53 ?_
  refine s_callVP EN (by decide) G (mX2_goesOver EN) q1014 q1015 q1016 q2345 q78 q1017 nmk_107 (rm_of hF (Nat.le_of_ble_eq_true rfl) (Nat.le_of_ble_eq_true rfl)) dX2_breathes_54 ?_ (sx_out G (fun z hz => (hxt z hz).elim))
  refine s_ifeq (tgt := 64) G.b dX2_breathes_57 (by decide) (tX2_breathes_64 EN G hF hC hxt h2 h17) ?_
  refine s_iconst (by decide) G.b dX2_breathes_60 ?_
  exact s_goto (tgt := 65) G.b dX2_breathes_61 (by decide) (tX2_breathes_65 EN G hF hC hxt h2 h17)
set_option maxHeartbeats 4000000 in
theorem tX2_breathes_12 {x : CX} {E : Nat → Value} {Q : Rs → HS → Prop} {X2 X17 : Ct} (EN : EX x E) (G : Gd x cX2_breathes "ChantRules$Machine" yX2_breathes 6 (Option.none : Option Jvm.ClassFile.FieldType) Q) (hF : x.1.2.2.2.frames = 406 ∧ x.1.2.2.2.locals = 8961) (hC : x.2.2.2.2.2 = (fun _ => false)) (hxt : (∀ z ∈ x.2.2.1.2.1.exceptionTable.toList, False)) (h2 : Snd x 2 X2) (h17 : Snd x 17 X17) : Snd x 12 (bX2_breathes_12 E Q X2 X17) := by
  unfold bX2_breathes_12
  refine s_callV G (mJ2_iterator EN) q884 q355 (sel_cons (r := (RJ2, TJ2, 3)) (by decide) rfl q356 (sel_nil)) q82 q357 nmk_18 (rm_of hF (Nat.le_of_ble_eq_true rfl) (Nat.le_of_ble_eq_true rfl)) dX2_breathes_12 ?_ (sx_out G (fun z hz => (hxt z hz).elim))
  refine s_astore G.b (by rw [G.nl]; decide) (fun _ _ => by rw [hC]) dX2_breathes_15 ?_
  exact h17
set_option maxHeartbeats 4000000 in
theorem tX2_breathes_2 {x : CX} {E : Nat → Value} {Q : Rs → HS → Prop} {X2 X17 : Ct} (EN : EX x E) (G : Gd x cX2_breathes "ChantRules$Machine" yX2_breathes 6 (Option.none : Option Jvm.ClassFile.FieldType) Q) (hF : x.1.2.2.2.frames = 406 ∧ x.1.2.2.2.locals = 8961) (hC : x.2.2.2.2.2 = (fun _ => false)) (hxt : (∀ z ∈ x.2.2.1.2.1.exceptionTable.toList, False)) (h2 : Snd x 2 X2) (h17 : Snd x 17 X17) : Snd x 2 (bX2_breathes_2 E Q X2 X17) := by
  unfold bX2_breathes_2
  refine s_iload_n rfl G.b dX2_breathes_2 ?_
  refine s_ifeq (tgt := 73) G.b dX2_breathes_3 (by decide) (tX2_breathes_73 EN G hF hC hxt h2 h17) ?_
  refine s_iconst (by decide) G.b dX2_breathes_6 ?_
  refine s_istore_n rfl G.b (by rw [G.nl]; decide) (fun _ _ => by rw [hC]) dX2_breathes_7 ?_
  refine s_aload_n rfl G.b dX2_breathes_8 ?_
  exact (s_vsel (s_callVU (w := ⟨"ChantRules$Machine", "arcs", "()Ljava/util/ArrayList;"⟩) (owner := "ChantRules$Machine") G (mX3_arcs EN) q875 q877 (va_Decl.abs (va_Nw.warmD G.warm (EN.nw q876 rfl))) (by decide +kernel) q882 (sel_cons (r := (RX3, TX3, 3)) (by decide) rfl q881 (sel_nil)) q79 q883 nmk_108 (rm_of hF (Nat.le_of_ble_eq_true rfl) (Nat.le_of_ble_eq_true rfl)) dX2_breathes_9 (tX2_breathes_12 EN G hF hC hxt h2 h17) (sx_out G (fun z hz => (hxt z hz).elim)) ) (s_callVU (w := ⟨"ChantRules$Machine", "arcs", "()Ljava/util/ArrayList;"⟩) (owner := "ChantRules$Machine") G (mX11_arcs EN) q875 q877 (va_Decl.abs (va_Nw.warmD G.warm (EN.nw q876 rfl))) (by decide +kernel) q879 (sel_cons (r := (RX11, TX11, 3)) (by decide) rfl q878 (sel_nil)) q106 q880 nmk_108 (rm_of hF (Nat.le_of_ble_eq_true rfl) (Nat.le_of_ble_eq_true rfl)) dX2_breathes_9 (tX2_breathes_12 EN G hF hC hxt h2 h17) (sx_out G (fun z hz => (hxt z hz).elim)) ))
set_option maxHeartbeats 4000000 in
theorem tX2_breathes_0 {x : CX} {E : Nat → Value} {Q : Rs → HS → Prop} {X2 X17 : Ct} (EN : EX x E) (G : Gd x cX2_breathes "ChantRules$Machine" yX2_breathes 6 (Option.none : Option Jvm.ClassFile.FieldType) Q) (hF : x.1.2.2.2.frames = 406 ∧ x.1.2.2.2.locals = 8961) (hC : x.2.2.2.2.2 = (fun _ => false)) (hxt : (∀ z ∈ x.2.2.1.2.1.exceptionTable.toList, False)) (h2 : Snd x 2 X2) (h17 : Snd x 17 X17) : Snd x 0 (bX2_breathes_0 E Q X2 X17) := by
  unfold bX2_breathes_0
  refine s_iconst (by decide) G.b dX2_breathes_0 ?_
  refine s_istore_n rfl G.b (by rw [G.nl]; decide) (fun _ _ => by rw [hC]) dX2_breathes_1 ?_
  exact h2
set_option maxHeartbeats 4000000 in
theorem mX2_breathes {l : Launch} {D : DE} {s0 : State} {E : Nat → Value} (EN : EV l D s0 E) : rMet l D s0 yX2_breathes (ws_ yX2_breathes cX2_breathes 6 (Option.none : Option Jvm.ClassFile.FieldType)) 406 8961 (wX2_breathes E) := by
  refine body_met (fun _ => false) EN.kn (fun w h => h) (by decide +kernel) rfl (fun av h Q hw => ?_) ?_
  · unfold wX2_breathes at hw
    split at hw
    · exact Nat.le_of_ble_eq_true rfl
    · exact hw.elim
  · intro p e s m below meth c av h Q hxt G hw
    unfold wX2_breathes at hw
    split at hw
    · exact tX2_breathes_0 EN G ⟨rfl, rfl⟩ rfl hxt (fun _ _ _ h => h) (fun _ _ _ h => h) _ _ _ (hw (AW _ 2) (AW _ 17) (tX2_breathes_2 EN G ⟨rfl, rfl⟩ rfl hxt (fun _ _ _ h => h) (fun _ _ _ h => h)) (tX2_breathes_17 EN G ⟨rfl, rfl⟩ rfl hxt (fun _ _ _ h => h) (fun _ _ _ h => h)))
    · exact hw.elim
/-! ChantRules$Rule.states()I (X3_states) -/
def bX3_states_0 (E : Nat → Value) (Q : Rs → HS → Prop) : Ct :=
  o_aload 0 <|
  o_getf [2] 2 <|
  o_ireturn .int Q
def wX3_states (E : Nat → Value) : Wp := fun av h Q => match av with
  | [a0] => bX3_states_0 E Q [a0] [] h
  | _ => False
set_option maxHeartbeats 4000000 in
theorem tX3_states_0 {x : CX} {E : Nat → Value} {Q : Rs → HS → Prop} (EN : EX x E) (G : Gd x cX3_states "ChantRules$Rule" yX3_states 1 (Option.some Jvm.ClassFile.FieldType.int) Q) (hF : x.1.2.2.2.frames = 2 ∧ x.1.2.2.2.locals = 64) (hC : x.2.2.2.2.2 = (fun _ => false)) (hxt : (∀ z ∈ x.2.2.1.2.1.exceptionTable.toList, False)) : Snd x 0 (bX3_states_0 E Q) := by
  unfold bX3_states_0
  refine s_aload_n rfl G.b dX3_states_0 ?_
  refine s_getf G.b G.ow G.kn (G.hts _ q180) (fun _ h => h) fa_4 dX3_states_1 ?_
  exact s_ireturn G dX3_states_4
set_option maxHeartbeats 4000000 in
theorem mX3_states {l : Launch} {D : DE} {s0 : State} {E : Nat → Value} (EN : EV l D s0 E) : rMet l D s0 yX3_states (ws_ yX3_states cX3_states 1 (Option.some Jvm.ClassFile.FieldType.int)) 2 64 (wX3_states E) := by
  refine body_met (fun _ => false) EN.kn (fun w h => h) (by decide +kernel) rfl (fun av h Q hw => ?_) ?_
  · unfold wX3_states at hw
    split at hw
    · exact Nat.le_of_ble_eq_true rfl
    · exact hw.elim
  · intro p e s m below meth c av h Q hxt G hw
    unfold wX3_states at hw
    split at hw
    · exact tX3_states_0 EN G ⟨rfl, rfl⟩ rfl hxt _ _ _ hw
    · exact hw.elim
/-! java/lang/String.isLatin1()Z (J6_isLatin1) -/
theorem fa_53 : fieldAt [19] 1 "java/lang/String" "coder" "B" := fa_cons (r := (RJ6, TJ6, 4)) rfl (by decide) rfl rfl rfl (fa_nil)
def bJ6_isLatin1_18 (E : Nat → Value) (Q : Rs → HS → Prop) : Ct :=
  o_ireturn .boolean Q
def bJ6_isLatin1_17 (E : Nat → Value) (Q : Rs → HS → Prop) : Ct :=
  o_push (.int 0) <|
  (bJ6_isLatin1_18 E Q)
def bJ6_isLatin1_0 (E : Nat → Value) (Q : Rs → HS → Prop) : Ct :=
  o_push (E 8) <|
  o_ifeq (bJ6_isLatin1_17 E Q) <|
  o_aload 0 <|
  o_getf [19] 1 <|
  o_ifne (bJ6_isLatin1_17 E Q) <|
  o_push (.int 1) <|
  (bJ6_isLatin1_18 E Q)
def wJ6_isLatin1 (E : Nat → Value) : Wp := fun av h Q => match av with
  | [a0] => bJ6_isLatin1_0 E Q [a0] [] h
  | _ => False
set_option maxHeartbeats 4000000 in
theorem tJ6_isLatin1_18 {x : CX} {E : Nat → Value} {Q : Rs → HS → Prop} (EN : EX x E) (G : Gd x cJ6_isLatin1 "java/lang/String" yJ6_isLatin1 1 (Option.some Jvm.ClassFile.FieldType.boolean) Q) (hF : x.1.2.2.2.frames = 2 ∧ x.1.2.2.2.locals = 64) (hC : x.2.2.2.2.2 = (fun _ => false)) (hxt : (∀ z ∈ x.2.2.1.2.1.exceptionTable.toList, False)) : Snd x 18 (bJ6_isLatin1_18 E Q) := by
  unfold bJ6_isLatin1_18
  exact s_ireturn G dJ6_isLatin1_18
set_option maxHeartbeats 4000000 in
theorem tJ6_isLatin1_17 {x : CX} {E : Nat → Value} {Q : Rs → HS → Prop} (EN : EX x E) (G : Gd x cJ6_isLatin1 "java/lang/String" yJ6_isLatin1 1 (Option.some Jvm.ClassFile.FieldType.boolean) Q) (hF : x.1.2.2.2.frames = 2 ∧ x.1.2.2.2.locals = 64) (hC : x.2.2.2.2.2 = (fun _ => false)) (hxt : (∀ z ∈ x.2.2.1.2.1.exceptionTable.toList, False)) : Snd x 17 (bJ6_isLatin1_17 E Q) := by
  unfold bJ6_isLatin1_17
  refine s_iconst (by decide) G.b dJ6_isLatin1_17 ?_
  exact (tJ6_isLatin1_18 EN G hF hC hxt)
set_option maxHeartbeats 4000000 in
theorem tJ6_isLatin1_0 {x : CX} {E : Nat → Value} {Q : Rs → HS → Prop} (EN : EX x E) (G : Gd x cJ6_isLatin1 "java/lang/String" yJ6_isLatin1 1 (Option.some Jvm.ClassFile.FieldType.boolean) Q) (hF : x.1.2.2.2.frames = 2 ∧ x.1.2.2.2.locals = 64) (hC : x.2.2.2.2.2 = (fun _ => false)) (hxt : (∀ z ∈ x.2.2.1.2.1.exceptionTable.toList, False)) : Snd x 0 (bJ6_isLatin1_0 E Q) := by
  unfold bJ6_isLatin1_0
  refine s_getst EN G q989 (i := 8) rfl dJ6_isLatin1_0 ?_
  refine s_ifeq (tgt := 17) G.b dJ6_isLatin1_3 (by decide) (tJ6_isLatin1_17 EN G hF hC hxt) ?_
  refine s_aload_n rfl G.b dJ6_isLatin1_6 ?_
  refine s_getf G.b G.ow G.kn (G.hts _ q1226) (fun _ h => h) fa_53 dJ6_isLatin1_7 ?_
  refine s_ifne (tgt := 17) G.b dJ6_isLatin1_10 (by decide) (tJ6_isLatin1_17 EN G hF hC hxt) ?_
  refine s_iconst (by decide) G.b dJ6_isLatin1_13 ?_
  exact s_goto (tgt := 18) G.b dJ6_isLatin1_14 (by decide) (tJ6_isLatin1_18 EN G hF hC hxt)
set_option maxHeartbeats 4000000 in
theorem mJ6_isLatin1 {l : Launch} {D : DE} {s0 : State} {E : Nat → Value} (EN : EV l D s0 E) : rMet l D s0 yJ6_isLatin1 (ws_ yJ6_isLatin1 cJ6_isLatin1 1 (Option.some Jvm.ClassFile.FieldType.boolean)) 2 64 (wJ6_isLatin1 E) := by
  refine body_met (fun _ => false) EN.kn (fun w h => h) (by decide +kernel) rfl (fun av h Q hw => ?_) ?_
  · unfold wJ6_isLatin1 at hw
    split at hw
    · exact Nat.le_of_ble_eq_true rfl
    · exact hw.elim
  · intro p e s m below meth c av h Q hxt G hw
    unfold wJ6_isLatin1 at hw
    split at hw
    · exact tJ6_isLatin1_0 EN G ⟨rfl, rfl⟩ rfl hxt _ _ _ hw
    · exact hw.elim
/-! java/lang/StringLatin1.charAt([BI)C (J17_charAt) -/
def bJ17_charAt_0 (E : Nat → Value) (Q : Rs → HS → Prop) : Ct :=
  o_iload 1 <|
  o_aload 0 <|
  o_alen <|
  o_call 2 (wJ6_checkIndex E) (x_out Q) <|
  o_aload 0 <|
  o_iload 1 <|
  o_ald [101, 102] <|
  o_push (.int 255) <|
  o_iand <|
  o_i2c <|
  o_ireturn .char Q
def wJ17_charAt (E : Nat → Value) : Wp := fun av h Q => match av with
  | [a0, a1] => bJ17_charAt_0 E Q [a0, a1] [] h
  | _ => False
set_option maxHeartbeats 4000000 in
theorem tJ17_charAt_0 {x : CX} {E : Nat → Value} {Q : Rs → HS → Prop} (EN : EX x E) (G : Gd x cJ17_charAt "java/lang/StringLatin1" yJ17_charAt 2 (Option.some Jvm.ClassFile.FieldType.char) Q) (hF : x.1.2.2.2.frames = 4 ∧ x.1.2.2.2.locals = 107) (hC : x.2.2.2.2.2 = (fun _ => false)) (hxt : (∀ z ∈ x.2.2.1.2.1.exceptionTable.toList, False)) : Snd x 0 (bJ17_charAt_0 E Q) := by
  unfold bJ17_charAt_0
  refine s_iload_n rfl G.b dJ17_charAt_0 ?_
  refine s_aload_n rfl G.b dJ17_charAt_1 ?_
  refine s_alen G.b G.kn dJ17_charAt_2 ?_
  refine s_callS G (mJ6_checkIndex EN) q1075 q952 q86 q953 nmk_42 (rm_of hF (Nat.le_of_ble_eq_true rfl) (Nat.le_of_ble_eq_true rfl)) dJ17_charAt_3 ?_ (sx_out G (fun z hz => (hxt z hz).elim))
  refine s_aload_n rfl G.b dJ17_charAt_6 ?_
  refine s_iload_n rfl G.b dJ17_charAt_7 ?_
  refine s_bald G.b G.kn dJ17_charAt_8 ?_
  refine s_sipush (by decide) G.b dJ17_charAt_9 ?_
  refine s_iand G.b dJ17_charAt_12 ?_
  refine s_i2c G.b dJ17_charAt_13 ?_
  exact s_ireturn G dJ17_charAt_14
set_option maxHeartbeats 4000000 in
theorem mJ17_charAt {l : Launch} {D : DE} {s0 : State} {E : Nat → Value} (EN : EV l D s0 E) : rMet l D s0 yJ17_charAt (ws_ yJ17_charAt cJ17_charAt 2 (Option.some Jvm.ClassFile.FieldType.char)) 4 107 (wJ17_charAt E) := by
  refine body_met (fun _ => false) EN.kn (fun w h => h) (by decide +kernel) rfl (fun av h Q hw => ?_) ?_
  · unfold wJ17_charAt at hw
    split at hw
    · exact Nat.le_of_ble_eq_true rfl
    · exact hw.elim
  · intro p e s m below meth c av h Q hxt G hw
    unfold wJ17_charAt at hw
    split at hw
    · exact tJ17_charAt_0 EN G ⟨rfl, rfl⟩ rfl hxt _ _ _ hw
    · exact hw.elim
/-! java/lang/StringUTF16.charAt([BI)C (J7_charAt) -/
def bJ7_charAt_0 (E : Nat → Value) (Q : Rs → HS → Prop) : Ct :=
  o_iload 1 <|
  o_aload 0 <|
  o_call 2 (wJ7_checkIndex E) (x_out Q) <|
  o_aload 0 <|
  o_iload 1 <|
  o_call 2 (wJ7_getChar E) (x_out Q) <|
  o_ireturn .char Q
def wJ7_charAt (E : Nat → Value) : Wp := fun av h Q => match av with
  | [a0, a1] => bJ7_charAt_0 E Q [a0, a1] [] h
  | _ => False
set_option maxHeartbeats 4000000 in
theorem tJ7_charAt_0 {x : CX} {E : Nat → Value} {Q : Rs → HS → Prop} (EN : EX x E) (G : Gd x cJ7_charAt "java/lang/StringUTF16" yJ7_charAt 2 (Option.some Jvm.ClassFile.FieldType.char) Q) (hF : x.1.2.2.2.frames = 5 ∧ x.1.2.2.2.locals = 128) (hC : x.2.2.2.2.2 = (fun _ => false)) (hxt : (∀ z ∈ x.2.2.1.2.1.exceptionTable.toList, False)) : Snd x 0 (bJ7_charAt_0 E Q) := by
  unfold bJ7_charAt_0
  refine s_iload_n rfl G.b dJ7_charAt_0 ?_
  refine s_aload_n rfl G.b dJ7_charAt_1 ?_
  refine s_callS G (mJ7_checkIndex EN) q1079 q1080 q87 q1081 nmk_43 (rm_of hF (Nat.le_of_ble_eq_true rfl) (Nat.le_of_ble_eq_true rfl)) dJ7_charAt_2 ?_ (sx_out G (fun z hz => (hxt z hz).elim))
  refine s_aload_n rfl G.b dJ7_charAt_5 ?_
  refine s_iload_n rfl G.b dJ7_charAt_6 ?_
  refine s_callS G (mJ7_getChar EN) q1083 q958 q87 q959 nmk_92 (rm_of hF (Nat.le_of_ble_eq_true rfl) (Nat.le_of_ble_eq_true rfl)) dJ7_charAt_7 ?_ (sx_out G (fun z hz => (hxt z hz).elim))
  exact s_ireturn G dJ7_charAt_10
set_option maxHeartbeats 4000000 in
theorem mJ7_charAt {l : Launch} {D : DE} {s0 : State} {E : Nat → Value} (EN : EV l D s0 E) : rMet l D s0 yJ7_charAt (ws_ yJ7_charAt cJ7_charAt 2 (Option.some Jvm.ClassFile.FieldType.char)) 5 128 (wJ7_charAt E) := by
  refine body_met (fun _ => false) EN.kn (fun w h => h) (by decide +kernel) rfl (fun av h Q hw => ?_) ?_
  · unfold wJ7_charAt at hw
    split at hw
    · exact Nat.le_of_ble_eq_true rfl
    · exact hw.elim
  · intro p e s m below meth c av h Q hxt G hw
    unfold wJ7_charAt at hw
    split at hw
    · exact tJ7_charAt_0 EN G ⟨rfl, rfl⟩ rfl hxt _ _ _ hw
    · exact hw.elim
/-! java/lang/String.charAt(I)C (J6_charAt) -/
theorem fa_54 : fieldAt [19] 0 "java/lang/String" "value" "[B" := fa_cons (r := (RJ6, TJ6, 4)) rfl (by decide) rfl rfl rfl (fa_nil)
theorem nmk_109 : nm_ok yJ7_charAt 2 := ⟨by decide +kernel, by decide +kernel, by decide +kernel⟩
theorem nmk_110 : nm_ok yJ6_isLatin1 0 := ⟨by decide +kernel, by decide +kernel, by decide +kernel⟩
theorem nmk_111 : nm_ok yJ17_charAt 2 := ⟨by decide +kernel, by decide +kernel, by decide +kernel⟩
def bJ6_charAt_16 (E : Nat → Value) (Q : Rs → HS → Prop) : Ct :=
  o_aload 0 <|
  o_getf [19] 0 <|
  o_iload 1 <|
  o_call 2 (wJ7_charAt E) (x_out Q) <|
  o_ireturn .char Q
def bJ6_charAt_0 (E : Nat → Value) (Q : Rs → HS → Prop) : Ct :=
  o_aload 0 <|
  o_callV [19] 1 (wJ6_isLatin1 E) (x_out Q) <|
  o_ifeq (bJ6_charAt_16 E Q) <|
  o_aload 0 <|
  o_getf [19] 0 <|
  o_iload 1 <|
  o_call 2 (wJ17_charAt E) (x_out Q) <|
  o_ireturn .char Q
def wJ6_charAt (E : Nat → Value) : Wp := fun av h Q => match av with
  | [a0, a1] => bJ6_charAt_0 E Q [a0, a1] [] h
  | _ => False
set_option maxHeartbeats 4000000 in
theorem tJ6_charAt_16 {x : CX} {E : Nat → Value} {Q : Rs → HS → Prop} (EN : EX x E) (G : Gd x cJ6_charAt "java/lang/String" yJ6_charAt 2 (Option.some Jvm.ClassFile.FieldType.char) Q) (hF : x.1.2.2.2.frames = 6 ∧ x.1.2.2.2.locals = 149) (hC : x.2.2.2.2.2 = (fun _ => false)) (hxt : (∀ z ∈ x.2.2.1.2.1.exceptionTable.toList, False)) : Snd x 16 (bJ6_charAt_16 E Q) := by
  unfold bJ6_charAt_16
  refine s_aload_n rfl G.b dJ6_charAt_16 ?_
  refine s_getf G.b G.ow G.kn (G.hts _ q1225) (fun _ h => h) fa_54 dJ6_charAt_17 ?_
  refine s_iload_n rfl G.b dJ6_charAt_20 ?_
  refine s_callS G (mJ7_charAt EN) q1076 q1077 q87 q1078 nmk_109 (rm_of hF (Nat.le_of_ble_eq_true rfl) (Nat.le_of_ble_eq_true rfl)) dJ6_charAt_21 ?_ (sx_out G (fun z hz => (hxt z hz).elim))
  exact s_ireturn G dJ6_charAt_24
set_option maxHeartbeats 4000000 in
theorem tJ6_charAt_0 {x : CX} {E : Nat → Value} {Q : Rs → HS → Prop} (EN : EX x E) (G : Gd x cJ6_charAt "java/lang/String" yJ6_charAt 2 (Option.some Jvm.ClassFile.FieldType.char) Q) (hF : x.1.2.2.2.frames = 6 ∧ x.1.2.2.2.locals = 149) (hC : x.2.2.2.2.2 = (fun _ => false)) (hxt : (∀ z ∈ x.2.2.1.2.1.exceptionTable.toList, False)) : Snd x 0 (bJ6_charAt_0 E Q) := by
  unfold bJ6_charAt_0
  refine s_aload_n rfl G.b dJ6_charAt_0 ?_
  refine s_callV G (mJ6_isLatin1 EN) q1068 q1069 (sel_cons (r := (RJ6, TJ6, 4)) (by decide) rfl q1070 (sel_nil)) q86 q1071 nmk_110 (rm_of hF (Nat.le_of_ble_eq_true rfl) (Nat.le_of_ble_eq_true rfl)) dJ6_charAt_1 ?_ (sx_out G (fun z hz => (hxt z hz).elim))
  refine s_ifeq (tgt := 16) G.b dJ6_charAt_4 (by decide) (tJ6_charAt_16 EN G hF hC hxt) ?_
  refine s_aload_n rfl G.b dJ6_charAt_7 ?_
  refine s_getf G.b G.ow G.kn (G.hts _ q1225) (fun _ h => h) fa_54 dJ6_charAt_8 ?_
  refine s_iload_n rfl G.b dJ6_charAt_11 ?_
  refine s_callS G (mJ17_charAt EN) q1072 q1073 q105 q1074 nmk_111 (rm_of hF (Nat.le_of_ble_eq_true rfl) (Nat.le_of_ble_eq_true rfl)) dJ6_charAt_12 ?_ (sx_out G (fun z hz => (hxt z hz).elim))
  exact s_ireturn G dJ6_charAt_15
set_option maxHeartbeats 4000000 in
theorem mJ6_charAt {l : Launch} {D : DE} {s0 : State} {E : Nat → Value} (EN : EV l D s0 E) : rMet l D s0 yJ6_charAt (ws_ yJ6_charAt cJ6_charAt 2 (Option.some Jvm.ClassFile.FieldType.char)) 6 149 (wJ6_charAt E) := by
  refine body_met (fun _ => false) EN.kn (fun w h => h) (by decide +kernel) rfl (fun av h Q hw => ?_) ?_
  · unfold wJ6_charAt at hw
    split at hw
    · exact Nat.le_of_ble_eq_true rfl
    · exact hw.elim
  · intro p e s m below meth c av h Q hxt G hw
    unfold wJ6_charAt at hw
    split at hw
    · exact tJ6_charAt_0 EN G ⟨rfl, rfl⟩ rfl hxt _ _ _ hw
    · exact hw.elim
/-! java/lang/String.coder()B (J6_coder) -/
def bJ6_coder_14 (E : Nat → Value) (Q : Rs → HS → Prop) : Ct :=
  o_ireturn .byte Q
def bJ6_coder_13 (E : Nat → Value) (Q : Rs → HS → Prop) : Ct :=
  o_push (.int 1) <|
  (bJ6_coder_14 E Q)
def bJ6_coder_0 (E : Nat → Value) (Q : Rs → HS → Prop) : Ct :=
  o_push (E 8) <|
  o_ifeq (bJ6_coder_13 E Q) <|
  o_aload 0 <|
  o_getf [19] 1 <|
  (bJ6_coder_14 E Q)
def wJ6_coder (E : Nat → Value) : Wp := fun av h Q => match av with
  | [a0] => bJ6_coder_0 E Q [a0] [] h
  | _ => False
set_option maxHeartbeats 4000000 in
theorem tJ6_coder_14 {x : CX} {E : Nat → Value} {Q : Rs → HS → Prop} (EN : EX x E) (G : Gd x cJ6_coder "java/lang/String" yJ6_coder 1 (Option.some Jvm.ClassFile.FieldType.byte) Q) (hF : x.1.2.2.2.frames = 2 ∧ x.1.2.2.2.locals = 64) (hC : x.2.2.2.2.2 = (fun _ => false)) (hxt : (∀ z ∈ x.2.2.1.2.1.exceptionTable.toList, False)) : Snd x 14 (bJ6_coder_14 E Q) := by
  unfold bJ6_coder_14
  exact s_ireturn G dJ6_coder_14
set_option maxHeartbeats 4000000 in
theorem tJ6_coder_13 {x : CX} {E : Nat → Value} {Q : Rs → HS → Prop} (EN : EX x E) (G : Gd x cJ6_coder "java/lang/String" yJ6_coder 1 (Option.some Jvm.ClassFile.FieldType.byte) Q) (hF : x.1.2.2.2.frames = 2 ∧ x.1.2.2.2.locals = 64) (hC : x.2.2.2.2.2 = (fun _ => false)) (hxt : (∀ z ∈ x.2.2.1.2.1.exceptionTable.toList, False)) : Snd x 13 (bJ6_coder_13 E Q) := by
  unfold bJ6_coder_13
  refine s_iconst (by decide) G.b dJ6_coder_13 ?_
  exact (tJ6_coder_14 EN G hF hC hxt)
set_option maxHeartbeats 4000000 in
theorem tJ6_coder_0 {x : CX} {E : Nat → Value} {Q : Rs → HS → Prop} (EN : EX x E) (G : Gd x cJ6_coder "java/lang/String" yJ6_coder 1 (Option.some Jvm.ClassFile.FieldType.byte) Q) (hF : x.1.2.2.2.frames = 2 ∧ x.1.2.2.2.locals = 64) (hC : x.2.2.2.2.2 = (fun _ => false)) (hxt : (∀ z ∈ x.2.2.1.2.1.exceptionTable.toList, False)) : Snd x 0 (bJ6_coder_0 E Q) := by
  unfold bJ6_coder_0
  refine s_getst EN G q989 (i := 8) rfl dJ6_coder_0 ?_
  refine s_ifeq (tgt := 13) G.b dJ6_coder_3 (by decide) (tJ6_coder_13 EN G hF hC hxt) ?_
  refine s_aload_n rfl G.b dJ6_coder_6 ?_
  refine s_getf G.b G.ow G.kn (G.hts _ q1226) (fun _ h => h) fa_53 dJ6_coder_7 ?_
  exact s_goto (tgt := 14) G.b dJ6_coder_10 (by decide) (tJ6_coder_14 EN G hF hC hxt)
set_option maxHeartbeats 4000000 in
theorem mJ6_coder {l : Launch} {D : DE} {s0 : State} {E : Nat → Value} (EN : EV l D s0 E) : rMet l D s0 yJ6_coder (ws_ yJ6_coder cJ6_coder 1 (Option.some Jvm.ClassFile.FieldType.byte)) 2 64 (wJ6_coder E) := by
  refine body_met (fun _ => false) EN.kn (fun w h => h) (by decide +kernel) rfl (fun av h Q hw => ?_) ?_
  · unfold wJ6_coder at hw
    split at hw
    · exact Nat.le_of_ble_eq_true rfl
    · exact hw.elim
  · intro p e s m below meth c av h Q hxt G hw
    unfold wJ6_coder at hw
    split at hw
    · exact tJ6_coder_0 EN G ⟨rfl, rfl⟩ rfl hxt _ _ _ hw
    · exact hw.elim
/-! java/lang/String.length()I (J6_length) -/
theorem nmk_112 : nm_ok yJ6_coder 0 := ⟨by decide +kernel, by decide +kernel, by decide +kernel⟩
def bJ6_length_0 (E : Nat → Value) (Q : Rs → HS → Prop) : Ct :=
  o_aload 0 <|
  o_getf [19] 0 <|
  o_alen <|
  o_aload 0 <|
  o_callV [19] 1 (wJ6_coder E) (x_out Q) <|
  o_ishr <|
  o_ireturn .int Q
def wJ6_length (E : Nat → Value) : Wp := fun av h Q => match av with
  | [a0] => bJ6_length_0 E Q [a0] [] h
  | _ => False
set_option maxHeartbeats 4000000 in
theorem tJ6_length_0 {x : CX} {E : Nat → Value} {Q : Rs → HS → Prop} (EN : EX x E) (G : Gd x cJ6_length "java/lang/String" yJ6_length 1 (Option.some Jvm.ClassFile.FieldType.int) Q) (hF : x.1.2.2.2.frames = 3 ∧ x.1.2.2.2.locals = 84) (hC : x.2.2.2.2.2 = (fun _ => false)) (hxt : (∀ z ∈ x.2.2.1.2.1.exceptionTable.toList, False)) : Snd x 0 (bJ6_length_0 E Q) := by
  unfold bJ6_length_0
  refine s_aload_n rfl G.b dJ6_length_0 ?_
  refine s_getf G.b G.ow G.kn (G.hts _ q1225) (fun _ h => h) fa_54 dJ6_length_1 ?_
  refine s_alen G.b G.kn dJ6_length_4 ?_
  refine s_aload_n rfl G.b dJ6_length_5 ?_
  refine s_callV G (mJ6_coder EN) q985 q986 (sel_cons (r := (RJ6, TJ6, 4)) (by decide) rfl q987 (sel_nil)) q86 q988 nmk_112 (rm_of hF (Nat.le_of_ble_eq_true rfl) (Nat.le_of_ble_eq_true rfl)) dJ6_length_6 ?_ (sx_out G (fun z hz => (hxt z hz).elim))
  refine s_ishr G.b dJ6_length_9 ?_
  exact s_ireturn G dJ6_length_10
set_option maxHeartbeats 4000000 in
theorem mJ6_length {l : Launch} {D : DE} {s0 : State} {E : Nat → Value} (EN : EV l D s0 E) : rMet l D s0 yJ6_length (ws_ yJ6_length cJ6_length 1 (Option.some Jvm.ClassFile.FieldType.int)) 3 84 (wJ6_length E) := by
  refine body_met (fun _ => false) EN.kn (fun w h => h) (by decide +kernel) rfl (fun av h Q hw => ?_) ?_
  · unfold wJ6_length at hw
    split at hw
    · exact Nat.le_of_ble_eq_true rfl
    · exact hw.elim
  · intro p e s m below meth c av h Q hxt G hw
    unfold wJ6_length at hw
    split at hw
    · exact tJ6_length_0 EN G ⟨rfl, rfl⟩ rfl hxt _ _ _ hw
    · exact hw.elim
/-! ChantRules$Machine.reads(Ljava/lang/CharSequence;)LChantRules$Way; (X2_reads) -/
theorem nmk_113 : nm_ok ⟨"ChantRules$Machine", "end", "(I)I"⟩ 1 := ⟨by decide +kernel, by decide +kernel, by decide +kernel⟩
theorem nmk_114 : nm_ok ⟨"java/lang/CharSequence", "length", "()I"⟩ 0 := ⟨by decide +kernel, by decide +kernel, by decide +kernel⟩
theorem nmk_115 : nm_ok ⟨"ChantRules$Machine", "states", "()I"⟩ 0 := ⟨by decide +kernel, by decide +kernel, by decide +kernel⟩
theorem nmk_116 : nm_ok yX2_breathes 2 := ⟨by decide +kernel, by decide +kernel, by decide +kernel⟩
theorem ct_8y : ∀ c ∈ ([11] : List Nat), (c, "ChantRules$Heard") ∈ ctab := by decide +kernel
theorem ct_8n : ∀ c ∈ ([10] : List Nat), (c, "ChantRules$Heard") ∈ ntab ∧ c < 23 := by decide +kernel
theorem ct_9 : ∀ c ∈ [11], (c, "ChantRules$Heard") ∈ ctab := by decide +kernel
theorem nmk_117 : nm_ok ⟨"java/lang/CharSequence", "charAt", "(I)C"⟩ 1 := ⟨by decide +kernel, by decide +kernel, by decide +kernel⟩
def bX2_reads_276 (E : Nat → Value) (Q : Rs → HS → Prop) (X37 X64 X183 : Ct) : Ct :=
  o_aload 3 <|
  o_areturn Q
def bX2_reads_269 (E : Nat → Value) (Q : Rs → HS → Prop) (X37 X64 X183 : Ct) : Ct :=
  o_astore 3 <|
  o_iinc 4 1 <|
  X183
def bX2_reads_268 (E : Nat → Value) (Q : Rs → HS → Prop) (X37 X64 X183 : Ct) : Ct :=
  o_aload 3 <|
  (bX2_reads_269 E Q X37 X64 X183)
def bX2_reads_261 (E : Nat → Value) (Q : Rs → HS → Prop) (X37 X64 X183 : Ct) : Ct :=
  o_push (.int 4) <|
  o_callV [12] 3 (wX9_over E) (x_out Q) <|
  (bX2_reads_269 E Q X37 X64 X183)
def bX2_reads_246 (E : Nat → Value) (Q : Rs → HS → Prop) (X37 X64 X183 : Ct) : Ct :=
  o_istore 6 <|
  o_iload 6 <|
  o_ifeq (bX2_reads_268 E Q X37 X64 X183) <|
  o_aload 5 <|
  o_aload 0 <|
  o_iload 4 <|
  o_vsel 2 [2] (o_callV [2] 2 (wX3_end E) (x_out Q) (bX2_reads_261 E Q X37 X64 X183)) (o_callV [4] 2 (wX11_end E) (x_out Q) (bX2_reads_261 E Q X37 X64 X183))
def bX2_reads_245 (E : Nat → Value) (Q : Rs → HS → Prop) (X37 X64 X183 : Ct) : Ct :=
  o_push (.int 0) <|
  (bX2_reads_246 E Q X37 X64 X183)
def bX2_reads_233 (E : Nat → Value) (Q : Rs → HS → Prop) (X37 X64 X183 : Ct) : Ct :=
  o_push (.int 4) <|
  o_aload 3 <|
  o_callV [12] 4 (wX9_isLess E) (x_out Q) <|
  o_ifeq (bX2_reads_245 E Q X37 X64 X183) <|
  o_push (.int 1) <|
  (bX2_reads_246 E Q X37 X64 X183)
def bX2_reads_221 (E : Nat → Value) (Q : Rs → HS → Prop) (X37 X64 X183 : Ct) : Ct :=
  o_push (.int (-1)) <|
  o_icmpeq (bX2_reads_245 E Q X37 X64 X183) <|
  o_aload 5 <|
  o_aload 0 <|
  o_iload 4 <|
  o_vsel 2 [2] (o_callV [2] 2 (wX3_end E) (x_out Q) (bX2_reads_233 E Q X37 X64 X183)) (o_callV [4] 2 (wX11_end E) (x_out Q) (bX2_reads_233 E Q X37 X64 X183))
def bX2_reads_203 (E : Nat → Value) (Q : Rs → HS → Prop) (X37 X64 X183 : Ct) : Ct :=
  o_imul <|
  o_iload 4 <|
  o_iadd <|
  o_ald [103, 104, 105, 106, 107] <|
  o_astore 5 <|
  o_aload 5 <|
  o_ifnull (bX2_reads_245 E Q X37 X64 X183) <|
  o_aload 0 <|
  o_iload 4 <|
  o_vsel 2 [2] (o_callV [2] 2 (wX3_end E) (x_out Q) (bX2_reads_221 E Q X37 X64 X183)) (o_callV [4] 2 (wX11_end E) (x_out Q) (bX2_reads_221 E Q X37 X64 X183))
def bX2_reads_197 (E : Nat → Value) (Q : Rs → HS → Prop) (X37 X64 X183 : Ct) : Ct :=
  o_aload 1 <|
  o_vsel 1 [18] (o_callV [18] 1 (wJ5_length E) (x_out Q) (bX2_reads_203 E Q X37 X64 X183)) (o_callV [19] 1 (wJ6_length E) (x_out Q) (bX2_reads_203 E Q X37 X64 X183))
def bX2_reads_189 (E : Nat → Value) (Q : Rs → HS → Prop) (X37 X64 X183 : Ct) : Ct :=
  o_icmpge (bX2_reads_276 E Q X37 X64 X183) <|
  o_aload 2 <|
  o_aload 0 <|
  o_vsel 1 [2] (o_callV [2] 1 (wX3_states E) (x_out Q) (bX2_reads_197 E Q X37 X64 X183)) (o_callV [4] 1 (wX11_states E) (x_out Q) (bX2_reads_197 E Q X37 X64 X183))
def bX2_reads_183 (E : Nat → Value) (Q : Rs → HS → Prop) (X37 X64 X183 : Ct) : Ct :=
  o_iload 4 <|
  o_aload 0 <|
  o_vsel 1 [2] (o_callV [2] 1 (wX3_states E) (x_out Q) (bX2_reads_189 E Q X37 X64 X183)) (o_callV [4] 1 (wX11_states E) (x_out Q) (bX2_reads_189 E Q X37 X64 X183))
def bX2_reads_178 (E : Nat → Value) (Q : Rs → HS → Prop) (X37 X64 X183 : Ct) : Ct :=
  o_push .null <|
  o_astore 3 <|
  o_push (.int 0) <|
  o_istore 4 <|
  X183
def bX2_reads_168 (E : Nat → Value) (Q : Rs → HS → Prop) (X37 X64 X183 : Ct) : Ct :=
  o_iadd <|
  o_callV [2, 4] 3 (wX2_breathes E) (x_out Q) <|
  o_iinc 3 1 <|
  X37
def bX2_reads_160 (E : Nat → Value) (Q : Rs → HS → Prop) (X37 X64 X183 : Ct) : Ct :=
  o_aload 0 <|
  o_aload 2 <|
  o_iload 4 <|
  o_aload 0 <|
  o_vsel 1 [2] (o_callV [2] 1 (wX3_states E) (x_out Q) (bX2_reads_168 E Q X37 X64 X183)) (o_callV [4] 1 (wX11_states E) (x_out Q) (bX2_reads_168 E Q X37 X64 X183))
def bX2_reads_155 (E : Nat → Value) (Q : Rs → HS → Prop) (X37 X64 X183 : Ct) : Ct :=
  o_istore 7 <|
  X64
def bX2_reads_154 (E : Nat → Value) (Q : Rs → HS → Prop) (X37 X64 X183 : Ct) : Ct :=
  o_push (.int 0) <|
  (bX2_reads_155 E Q X37 X64 X183)
def bX2_reads_143 (E : Nat → Value) (Q : Rs → HS → Prop) (X37 X64 X183 : Ct) : Ct :=
  o_iadd <|
  o_callV [2, 4] 5 (wX2_goesOver E) (x_out Q) <|
  o_ifeq (bX2_reads_154 E Q X37 X64 X183) <|
  o_push (.int 1) <|
  (bX2_reads_155 E Q X37 X64 X183)
def bX2_reads_124 (E : Nat → Value) (Q : Rs → HS → Prop) (X37 X64 X183 : Ct) : Ct :=
  o_istore 7 <|
  o_iload 7 <|
  o_ifeq (bX2_reads_154 E Q X37 X64 X183) <|
  o_aload 0 <|
  o_aload 6 <|
  o_aload 2 <|
  o_iload 4 <|
  o_iload 4 <|
  o_aload 0 <|
  o_vsel 1 [2] (o_callV [2] 1 (wX3_states E) (x_out Q) (bX2_reads_143 E Q X37 X64 X183)) (o_callV [4] 1 (wX11_states E) (x_out Q) (bX2_reads_143 E Q X37 X64 X183))
def bX2_reads_123 (E : Nat → Value) (Q : Rs → HS → Prop) (X37 X64 X183 : Ct) : Ct :=
  o_push (.int 0) <|
  (bX2_reads_124 E Q X37 X64 X183)
def bX2_reads_113 (E : Nat → Value) (Q : Rs → HS → Prop) (X37 X64 X183 : Ct) : Ct :=
  o_push (.int 97) <|
  o_isub <|
  o_icmpne (bX2_reads_123 E Q X37 X64 X183) <|
  o_push (.int 1) <|
  (bX2_reads_124 E Q X37 X64 X183)
def bX2_reads_64 (E : Nat → Value) (Q : Rs → HS → Prop) (X37 X64 X183 : Ct) : Ct :=
  o_aload 5 <|
  o_callV [20] 1 (wJ9_hasNext E) (x_out Q) <|
  o_ifeq (bX2_reads_160 E Q X37 X64 X183) <|
  o_aload 5 <|
  o_callV [20] 1 (wJ9_next E) (x_out Q) <|
  o_cast [10, 11] <|
  o_astore 6 <|
  o_aload 6 <|
  o_inst [11] [10] <|
  o_ifeq (bX2_reads_123 E Q X37 X64 X183) <|
  o_aload 6 <|
  o_cast [11] <|
  o_astore 8 <|
  o_aload 8 <|
  o_getf [11] 2 <|
  o_aload 1 <|
  o_iload 3 <|
  o_vsel 2 [18] (o_callV [18] 2 (wJ5_charAt E) (x_out Q) (bX2_reads_113 E Q X37 X64 X183)) (o_callV [19] 2 (wJ6_charAt E) (x_out Q) (bX2_reads_113 E Q X37 X64 X183))
def bX2_reads_59 (E : Nat → Value) (Q : Rs → HS → Prop) (X37 X64 X183 : Ct) : Ct :=
  o_callV [15] 1 (wJ2_iterator E) (x_out Q) <|
  o_astore 5 <|
  X64
def bX2_reads_51 (E : Nat → Value) (Q : Rs → HS → Prop) (X37 X64 X183 : Ct) : Ct :=
  o_iload 3 <|
  o_imul <|
  o_istore 4 <|
  o_aload 0 <|
  o_vsel 1 [2] (o_callV [2] 1 (wX3_arcs E) (x_out Q) (bX2_reads_59 E Q X37 X64 X183)) (o_callV [4] 1 (wX11_arcs E) (x_out Q) (bX2_reads_59 E Q X37 X64 X183))
def bX2_reads_44 (E : Nat → Value) (Q : Rs → HS → Prop) (X37 X64 X183 : Ct) : Ct :=
  o_icmpge (bX2_reads_178 E Q X37 X64 X183) <|
  o_aload 0 <|
  o_vsel 1 [2] (o_callV [2] 1 (wX3_states E) (x_out Q) (bX2_reads_51 E Q X37 X64 X183)) (o_callV [4] 1 (wX11_states E) (x_out Q) (bX2_reads_51 E Q X37 X64 X183))
def bX2_reads_37 (E : Nat → Value) (Q : Rs → HS → Prop) (X37 X64 X183 : Ct) : Ct :=
  o_iload 3 <|
  o_aload 1 <|
  o_vsel 1 [18] (o_callV [18] 1 (wJ5_length E) (x_out Q) (bX2_reads_44 E Q X37 X64 X183)) (o_callV [19] 1 (wJ6_length E) (x_out Q) (bX2_reads_44 E Q X37 X64 X183))
def bX2_reads_10 (E : Nat → Value) (Q : Rs → HS → Prop) (X37 X64 X183 : Ct) : Ct :=
  o_push (.int 1) <|
  o_iadd <|
  o_imul <|
  o_newa 106 .null <|
  o_astore 2 <|
  o_aload 2 <|
  o_push (.int 0) <|
  o_new 12 2 [.int 0, .null] <|
  o_dup <|
  o_push (.int 0) <|
  o_push .null <|
  o_callI 3 (wX9_init E) (x_out Q) <|
  o_aast <|
  o_aload 0 <|
  o_aload 2 <|
  o_push (.int 0) <|
  o_callV [2, 4] 3 (wX2_breathes E) (x_out Q) <|
  o_push (.int 0) <|
  o_istore 3 <|
  X37
def bX2_reads_4 (E : Nat → Value) (Q : Rs → HS → Prop) (X37 X64 X183 : Ct) : Ct :=
  o_aload 1 <|
  o_vsel 1 [18] (o_callV [18] 1 (wJ5_length E) (x_out Q) (bX2_reads_10 E Q X37 X64 X183)) (o_callV [19] 1 (wJ6_length E) (x_out Q) (bX2_reads_10 E Q X37 X64 X183))
def bX2_reads_0 (E : Nat → Value) (Q : Rs → HS → Prop) (X37 X64 X183 : Ct) : Ct :=
  o_aload 0 <|
  o_vsel 1 [2] (o_callV [2] 1 (wX3_states E) (x_out Q) (bX2_reads_4 E Q X37 X64 X183)) (o_callV [4] 1 (wX11_states E) (x_out Q) (bX2_reads_4 E Q X37 X64 X183))
def wX2_reads (E : Nat → Value) : Wp := fun av h Q => match av with
  | [a0, a1] => ∀ X37 X64 X183 : Ct, (∀ ls st h, bX2_reads_37 E Q X37 X64 X183 ls st h → X37 ls st h) → (∀ ls st h, bX2_reads_64 E Q X37 X64 X183 ls st h → X64 ls st h) → (∀ ls st h, bX2_reads_183 E Q X37 X64 X183 ls st h → X183 ls st h) → bX2_reads_0 E Q X37 X64 X183 [a0, a1, jk, jk, jk, jk, jk, jk, jk] [] h
  | _ => False
set_option maxHeartbeats 4000000 in
theorem tX2_reads_276 {x : CX} {E : Nat → Value} {Q : Rs → HS → Prop} {X37 X64 X183 : Ct} (EN : EX x E) (G : Gd x cX2_reads "ChantRules$Machine" yX2_reads 9 (Option.some (Jvm.ClassFile.FieldType.object "ChantRules$Way")) Q) (hF : x.1.2.2.2.frames = 407 ∧ x.1.2.2.2.locals = 8986) (hC : x.2.2.2.2.2 = (fun _ => false)) (hxt : (∀ z ∈ x.2.2.1.2.1.exceptionTable.toList, False)) (h37 : Snd x 37 X37) (h64 : Snd x 64 X64) (h183 : Snd x 183 X183) : Snd x 276 (bX2_reads_276 E Q X37 X64 X183) := by
  unfold bX2_reads_276
  refine s_aload_n rfl G.b dX2_reads_276 ?_
  exact s_areturn (Or.inl ⟨_, rfl⟩) G dX2_reads_277
set_option maxHeartbeats 4000000 in
theorem tX2_reads_269 {x : CX} {E : Nat → Value} {Q : Rs → HS → Prop} {X37 X64 X183 : Ct} (EN : EX x E) (G : Gd x cX2_reads "ChantRules$Machine" yX2_reads 9 (Option.some (Jvm.ClassFile.FieldType.object "ChantRules$Way")) Q) (hF : x.1.2.2.2.frames = 407 ∧ x.1.2.2.2.locals = 8986) (hC : x.2.2.2.2.2 = (fun _ => false)) (hxt : (∀ z ∈ x.2.2.1.2.1.exceptionTable.toList, False)) (h37 : Snd x 37 X37) (h64 : Snd x 64 X64) (h183 : Snd x 183 X183) : Snd x 269 (bX2_reads_269 E Q X37 X64 X183) := by
  unfold bX2_reads_269
  refine s_astore_n rfl G.b (by rw [G.nl]; decide) (fun _ _ => by rw [hC]) dX2_reads_269 ?_
  refine s_iinc (by decide) G.b (by rw [G.nl]; decide) (fun _ _ => by rw [hC]) dX2_reads_270 ?_
  exact s_goto (tgt := 183) G.b dX2_reads_273 (by decide) h183
set_option maxHeartbeats 4000000 in
theorem tX2_reads_268 {x : CX} {E : Nat → Value} {Q : Rs → HS → Prop} {X37 X64 X183 : Ct} (EN : EX x E) (G : Gd x cX2_reads "ChantRules$Machine" yX2_reads 9 (Option.some (Jvm.ClassFile.FieldType.object "ChantRules$Way")) Q) (hF : x.1.2.2.2.frames = 407 ∧ x.1.2.2.2.locals = 8986) (hC : x.2.2.2.2.2 = (fun _ => false)) (hxt : (∀ z ∈ x.2.2.1.2.1.exceptionTable.toList, False)) (h37 : Snd x 37 X37) (h64 : Snd x 64 X64) (h183 : Snd x 183 X183) : Snd x 268 (bX2_reads_268 E Q X37 X64 X183) := by
  unfold bX2_reads_268
  refine s_aload_n rfl G.b dX2_reads_268 ?_
  exact (tX2_reads_269 EN G hF hC hxt h37 h64 h183)
set_option maxHeartbeats 4000000 in
theorem tX2_reads_261 {x : CX} {E : Nat → Value} {Q : Rs → HS → Prop} {X37 X64 X183 : Ct} (EN : EX x E) (G : Gd x cX2_reads "ChantRules$Machine" yX2_reads 9 (Option.some (Jvm.ClassFile.FieldType.object "ChantRules$Way")) Q) (hF : x.1.2.2.2.frames = 407 ∧ x.1.2.2.2.locals = 8986) (hC : x.2.2.2.2.2 = (fun _ => false)) (hxt : (∀ z ∈ x.2.2.1.2.1.exceptionTable.toList, False)) (h37 : Snd x 37 X37) (h64 : Snd x 64 X64) (h183 : Snd x 183 X183) : Snd x 261 (bX2_reads_261 E Q X37 X64 X183) := by
  unfold bX2_reads_261
  refine s_iconst (by decide) G.b dX2_reads_261 ?_
  refine s_callV G (mX9_over EN) q1035 q1036 (sel_cons (r := (RX9, TX9, 2)) (by decide) rfl q1037 (sel_nil)) q103 q1038 nmk_105 (rm_of hF (Nat.le_of_ble_eq_true rfl) (Nat.le_of_ble_eq_true rfl)) dX2_reads_262 ?_ (sx_out G (fun z hz => (hxt z hz).elim))
  exact s_goto (tgt := 269) G.b dX2_reads_265 (by decide) (tX2_reads_269 EN G hF hC hxt h37 h64 h183)
set_option maxHeartbeats 4000000 in
theorem tX2_reads_246 {x : CX} {E : Nat → Value} {Q : Rs → HS → Prop} {X37 X64 X183 : Ct} (EN : EX x E) (G : Gd x cX2_reads "ChantRules$Machine" yX2_reads 9 (Option.some (Jvm.ClassFile.FieldType.object "ChantRules$Way")) Q) (hF : x.1.2.2.2.frames = 407 ∧ x.1.2.2.2.locals = 8986) (hC : x.2.2.2.2.2 = (fun _ => false)) (hxt : (∀ z ∈ x.2.2.1.2.1.exceptionTable.toList, False)) (h37 : Snd x 37 X37) (h64 : Snd x 64 X64) (h183 : Snd x 183 X183) : Snd x 246 (bX2_reads_246 E Q X37 X64 X183) := by
  unfold bX2_reads_246
  refine s_istore G.b (by rw [G.nl]; decide) (fun _ _ => by rw [hC]) dX2_reads_246 ?_
  refine s_iload G.b dX2_reads_248 ?_
  refine s_ifeq (tgt := 268) G.b dX2_reads_250 (by decide) (tX2_reads_268 EN G hF hC hxt h37 h64 h183) ?_
  refine s_aload G.b dX2_reads_253 ?_
  refine s_aload_n rfl G.b dX2_reads_255 ?_
  refine s_iload G.b dX2_reads_256 ?_
  exact (s_vsel (s_callVU (w := ⟨"ChantRules$Machine", "end", "(I)I"⟩) (owner := "ChantRules$Machine") G (mX3_end EN) q907 q909 (va_Decl.abs (va_Nw.warmD G.warm (EN.nw q908 rfl))) (by decide +kernel) q914 (sel_cons (r := (RX3, TX3, 3)) (by decide) rfl q917 (sel_nil)) q79 q916 nmk_113 (rm_of hF (Nat.le_of_ble_eq_true rfl) (Nat.le_of_ble_eq_true rfl)) dX2_reads_258 (tX2_reads_261 EN G hF hC hxt h37 h64 h183) (sx_out G (fun z hz => (hxt z hz).elim)) ) (s_callVU (w := ⟨"ChantRules$Machine", "end", "(I)I"⟩) (owner := "ChantRules$Machine") G (mX11_end EN) q907 q909 (va_Decl.abs (va_Nw.warmD G.warm (EN.nw q908 rfl))) (by decide +kernel) q911 (sel_cons (r := (RX11, TX11, 3)) (by decide) rfl q910 (sel_nil)) q106 q912 nmk_113 (rm_of hF (Nat.le_of_ble_eq_true rfl) (Nat.le_of_ble_eq_true rfl)) dX2_reads_258 (tX2_reads_261 EN G hF hC hxt h37 h64 h183) (sx_out G (fun z hz => (hxt z hz).elim)) ))
set_option maxHeartbeats 4000000 in
theorem tX2_reads_245 {x : CX} {E : Nat → Value} {Q : Rs → HS → Prop} {X37 X64 X183 : Ct} (EN : EX x E) (G : Gd x cX2_reads "ChantRules$Machine" yX2_reads 9 (Option.some (Jvm.ClassFile.FieldType.object "ChantRules$Way")) Q) (hF : x.1.2.2.2.frames = 407 ∧ x.1.2.2.2.locals = 8986) (hC : x.2.2.2.2.2 = (fun _ => false)) (hxt : (∀ z ∈ x.2.2.1.2.1.exceptionTable.toList, False)) (h37 : Snd x 37 X37) (h64 : Snd x 64 X64) (h183 : Snd x 183 X183) : Snd x 245 (bX2_reads_245 E Q X37 X64 X183) := by
  unfold bX2_reads_245
  refine s_iconst (by decide) G.b dX2_reads_245 ?_
  exact (tX2_reads_246 EN G hF hC hxt h37 h64 h183)
set_option maxHeartbeats 4000000 in
theorem tX2_reads_233 {x : CX} {E : Nat → Value} {Q : Rs → HS → Prop} {X37 X64 X183 : Ct} (EN : EX x E) (G : Gd x cX2_reads "ChantRules$Machine" yX2_reads 9 (Option.some (Jvm.ClassFile.FieldType.object "ChantRules$Way")) Q) (hF : x.1.2.2.2.frames = 407 ∧ x.1.2.2.2.locals = 8986) (hC : x.2.2.2.2.2 = (fun _ => false)) (hxt : (∀ z ∈ x.2.2.1.2.1.exceptionTable.toList, False)) (h37 : Snd x 37 X37) (h64 : Snd x 64 X64) (h183 : Snd x 183 X183) : Snd x 233 (bX2_reads_233 E Q X37 X64 X183) := by
  unfold bX2_reads_233
  refine s_iconst (by decide) G.b dX2_reads_233 ?_
  refine s_aload_n rfl G.b dX2_reads_234 ?_
  refine s_callV G (mX9_isLess EN) q1022 q1023 (sel_cons (r := (RX9, TX9, 2)) (by decide) rfl q1024 (sel_nil)) q103 q1025 nmk_106 (rm_of hF (Nat.le_of_ble_eq_true rfl) (Nat.le_of_ble_eq_true rfl)) dX2_reads_235 ?_ (sx_out G (fun z hz => (hxt z hz).elim))
  refine s_ifeq (tgt := 245) G.b dX2_reads_238 (by decide) (tX2_reads_245 EN G hF hC hxt h37 h64 h183) ?_
  refine s_iconst (by decide) G.b dX2_reads_241 ?_
  exact s_goto (tgt := 246) G.b dX2_reads_242 (by decide) (tX2_reads_246 EN G hF hC hxt h37 h64 h183)
set_option maxHeartbeats 4000000 in
theorem tX2_reads_221 {x : CX} {E : Nat → Value} {Q : Rs → HS → Prop} {X37 X64 X183 : Ct} (EN : EX x E) (G : Gd x cX2_reads "ChantRules$Machine" yX2_reads 9 (Option.some (Jvm.ClassFile.FieldType.object "ChantRules$Way")) Q) (hF : x.1.2.2.2.frames = 407 ∧ x.1.2.2.2.locals = 8986) (hC : x.2.2.2.2.2 = (fun _ => false)) (hxt : (∀ z ∈ x.2.2.1.2.1.exceptionTable.toList, False)) (h37 : Snd x 37 X37) (h64 : Snd x 64 X64) (h183 : Snd x 183 X183) : Snd x 221 (bX2_reads_221 E Q X37 X64 X183) := by
  unfold bX2_reads_221
  refine s_iconst (by decide) G.b dX2_reads_221 ?_
  refine s_icmpeq (tgt := 245) G.b dX2_reads_222 (by decide) (tX2_reads_245 EN G hF hC hxt h37 h64 h183) ?_
  refine s_aload G.b dX2_reads_225 ?_
  refine s_aload_n rfl G.b dX2_reads_227 ?_
  refine s_iload G.b dX2_reads_228 ?_
  exact (s_vsel (s_callVU (w := ⟨"ChantRules$Machine", "end", "(I)I"⟩) (owner := "ChantRules$Machine") G (mX3_end EN) q907 q909 (va_Decl.abs (va_Nw.warmD G.warm (EN.nw q908 rfl))) (by decide +kernel) q914 (sel_cons (r := (RX3, TX3, 3)) (by decide) rfl q917 (sel_nil)) q79 q916 nmk_113 (rm_of hF (Nat.le_of_ble_eq_true rfl) (Nat.le_of_ble_eq_true rfl)) dX2_reads_230 (tX2_reads_233 EN G hF hC hxt h37 h64 h183) (sx_out G (fun z hz => (hxt z hz).elim)) ) (s_callVU (w := ⟨"ChantRules$Machine", "end", "(I)I"⟩) (owner := "ChantRules$Machine") G (mX11_end EN) q907 q909 (va_Decl.abs (va_Nw.warmD G.warm (EN.nw q908 rfl))) (by decide +kernel) q911 (sel_cons (r := (RX11, TX11, 3)) (by decide) rfl q910 (sel_nil)) q106 q912 nmk_113 (rm_of hF (Nat.le_of_ble_eq_true rfl) (Nat.le_of_ble_eq_true rfl)) dX2_reads_230 (tX2_reads_233 EN G hF hC hxt h37 h64 h183) (sx_out G (fun z hz => (hxt z hz).elim)) ))
set_option maxHeartbeats 4000000 in
theorem tX2_reads_203 {x : CX} {E : Nat → Value} {Q : Rs → HS → Prop} {X37 X64 X183 : Ct} (EN : EX x E) (G : Gd x cX2_reads "ChantRules$Machine" yX2_reads 9 (Option.some (Jvm.ClassFile.FieldType.object "ChantRules$Way")) Q) (hF : x.1.2.2.2.frames = 407 ∧ x.1.2.2.2.locals = 8986) (hC : x.2.2.2.2.2 = (fun _ => false)) (hxt : (∀ z ∈ x.2.2.1.2.1.exceptionTable.toList, False)) (h37 : Snd x 37 X37) (h64 : Snd x 64 X64) (h183 : Snd x 183 X183) : Snd x 203 (bX2_reads_203 E Q X37 X64 X183) := by
  unfold bX2_reads_203
  refine s_imul G.b dX2_reads_203 ?_
  refine s_iload G.b dX2_reads_204 ?_
  refine s_iadd G.b dX2_reads_206 ?_
  refine s_aald G.b G.kn dX2_reads_207 ?_
  refine s_astore G.b (by rw [G.nl]; decide) (fun _ _ => by rw [hC]) dX2_reads_208 ?_
  refine s_aload G.b dX2_reads_210 ?_
  refine s_ifnull (tgt := 245) G.b dX2_reads_212 (by decide) (tX2_reads_245 EN G hF hC hxt h37 h64 h183) ?_
  refine s_aload_n rfl G.b dX2_reads_215 ?_
  refine s_iload G.b dX2_reads_216 ?_
  exact (s_vsel (s_callVU (w := ⟨"ChantRules$Machine", "end", "(I)I"⟩) (owner := "ChantRules$Machine") G (mX3_end EN) q907 q909 (va_Decl.abs (va_Nw.warmD G.warm (EN.nw q908 rfl))) (by decide +kernel) q914 (sel_cons (r := (RX3, TX3, 3)) (by decide) rfl q917 (sel_nil)) q79 q916 nmk_113 (rm_of hF (Nat.le_of_ble_eq_true rfl) (Nat.le_of_ble_eq_true rfl)) dX2_reads_218 (tX2_reads_221 EN G hF hC hxt h37 h64 h183) (sx_out G (fun z hz => (hxt z hz).elim)) ) (s_callVU (w := ⟨"ChantRules$Machine", "end", "(I)I"⟩) (owner := "ChantRules$Machine") G (mX11_end EN) q907 q909 (va_Decl.abs (va_Nw.warmD G.warm (EN.nw q908 rfl))) (by decide +kernel) q911 (sel_cons (r := (RX11, TX11, 3)) (by decide) rfl q910 (sel_nil)) q106 q912 nmk_113 (rm_of hF (Nat.le_of_ble_eq_true rfl) (Nat.le_of_ble_eq_true rfl)) dX2_reads_218 (tX2_reads_221 EN G hF hC hxt h37 h64 h183) (sx_out G (fun z hz => (hxt z hz).elim)) ))
set_option maxHeartbeats 4000000 in
theorem tX2_reads_197 {x : CX} {E : Nat → Value} {Q : Rs → HS → Prop} {X37 X64 X183 : Ct} (EN : EX x E) (G : Gd x cX2_reads "ChantRules$Machine" yX2_reads 9 (Option.some (Jvm.ClassFile.FieldType.object "ChantRules$Way")) Q) (hF : x.1.2.2.2.frames = 407 ∧ x.1.2.2.2.locals = 8986) (hC : x.2.2.2.2.2 = (fun _ => false)) (hxt : (∀ z ∈ x.2.2.1.2.1.exceptionTable.toList, False)) (h37 : Snd x 37 X37) (h64 : Snd x 64 X64) (h183 : Snd x 183 X183) : Snd x 197 (bX2_reads_197 E Q X37 X64 X183) := by
  unfold bX2_reads_197
  refine s_aload_n rfl G.b dX2_reads_197 ?_
  exact (s_vsel (s_callF (r0 := (RJ5, TJ5, 4)) (w := ⟨"java/lang/CharSequence", "length", "()I"⟩) (by decide) rfl G (mJ5_length EN) q976 (va_Fw.moved (by decide +kernel) G.warm.alike ⟨(EN.nw q978 rfl), (EN.nw q977 rfl), (EN.nw q993 rfl), (EN.nw q992 rfl), (EN.nw q990 rfl)⟩) q991 q937 q85 q939 nmk_114 (rm_of hF (Nat.le_of_ble_eq_true rfl) (Nat.le_of_ble_eq_true rfl)) dX2_reads_198 (tX2_reads_203 EN G hF hC hxt h37 h64 h183) (sx_out G (fun z hz => (hxt z hz).elim)) ) (s_callF (r0 := (RJ6, TJ6, 4)) (w := ⟨"java/lang/CharSequence", "length", "()I"⟩) (by decide) rfl G (mJ6_length EN) q976 (va_Fw.moved (by decide +kernel) G.warm.alike ⟨(EN.nw q978 rfl), (EN.nw q977 rfl), (EN.nw q983 rfl), (EN.nw q981 rfl), (EN.nw q979 rfl)⟩) q980 q982 q86 q984 nmk_114 (rm_of hF (Nat.le_of_ble_eq_true rfl) (Nat.le_of_ble_eq_true rfl)) dX2_reads_198 (tX2_reads_203 EN G hF hC hxt h37 h64 h183) (sx_out G (fun z hz => (hxt z hz).elim)) ))
set_option maxHeartbeats 4000000 in
theorem tX2_reads_189 {x : CX} {E : Nat → Value} {Q : Rs → HS → Prop} {X37 X64 X183 : Ct} (EN : EX x E) (G : Gd x cX2_reads "ChantRules$Machine" yX2_reads 9 (Option.some (Jvm.ClassFile.FieldType.object "ChantRules$Way")) Q) (hF : x.1.2.2.2.frames = 407 ∧ x.1.2.2.2.locals = 8986) (hC : x.2.2.2.2.2 = (fun _ => false)) (hxt : (∀ z ∈ x.2.2.1.2.1.exceptionTable.toList, False)) (h37 : Snd x 37 X37) (h64 : Snd x 64 X64) (h183 : Snd x 183 X183) : Snd x 189 (bX2_reads_189 E Q X37 X64 X183) := by
  unfold bX2_reads_189
  refine s_icmpge (tgt := 276) G.b dX2_reads_189 (by decide) (tX2_reads_276 EN G hF hC hxt h37 h64 h183) ?_
  refine s_aload_n rfl G.b dX2_reads_192 ?_
  refine s_aload_n rfl G.b dX2_reads_193 ?_
  exact (s_vsel (s_callVU (w := ⟨"ChantRules$Machine", "states", "()I"⟩) (owner := "ChantRules$Machine") G (mX3_states EN) q866 q868 (va_Decl.abs (va_Nw.warmD G.warm (EN.nw q867 rfl))) (by decide +kernel) q873 (sel_cons (r := (RX3, TX3, 3)) (by decide) rfl q872 (sel_nil)) q79 q874 nmk_115 (rm_of hF (Nat.le_of_ble_eq_true rfl) (Nat.le_of_ble_eq_true rfl)) dX2_reads_194 (tX2_reads_197 EN G hF hC hxt h37 h64 h183) (sx_out G (fun z hz => (hxt z hz).elim)) ) (s_callVU (w := ⟨"ChantRules$Machine", "states", "()I"⟩) (owner := "ChantRules$Machine") G (mX11_states EN) q866 q868 (va_Decl.abs (va_Nw.warmD G.warm (EN.nw q867 rfl))) (by decide +kernel) q870 (sel_cons (r := (RX11, TX11, 3)) (by decide) rfl q869 (sel_nil)) q106 q871 nmk_115 (rm_of hF (Nat.le_of_ble_eq_true rfl) (Nat.le_of_ble_eq_true rfl)) dX2_reads_194 (tX2_reads_197 EN G hF hC hxt h37 h64 h183) (sx_out G (fun z hz => (hxt z hz).elim)) ))
set_option maxHeartbeats 4000000 in
theorem tX2_reads_183 {x : CX} {E : Nat → Value} {Q : Rs → HS → Prop} {X37 X64 X183 : Ct} (EN : EX x E) (G : Gd x cX2_reads "ChantRules$Machine" yX2_reads 9 (Option.some (Jvm.ClassFile.FieldType.object "ChantRules$Way")) Q) (hF : x.1.2.2.2.frames = 407 ∧ x.1.2.2.2.locals = 8986) (hC : x.2.2.2.2.2 = (fun _ => false)) (hxt : (∀ z ∈ x.2.2.1.2.1.exceptionTable.toList, False)) (h37 : Snd x 37 X37) (h64 : Snd x 64 X64) (h183 : Snd x 183 X183) : Snd x 183 (bX2_reads_183 E Q X37 X64 X183) := by
  unfold bX2_reads_183
  refine s_iload G.b dX2_reads_183 ?_
  refine s_aload_n rfl G.b dX2_reads_185 ?_
  exact (s_vsel (s_callVU (w := ⟨"ChantRules$Machine", "states", "()I"⟩) (owner := "ChantRules$Machine") G (mX3_states EN) q866 q868 (va_Decl.abs (va_Nw.warmD G.warm (EN.nw q867 rfl))) (by decide +kernel) q873 (sel_cons (r := (RX3, TX3, 3)) (by decide) rfl q872 (sel_nil)) q79 q874 nmk_115 (rm_of hF (Nat.le_of_ble_eq_true rfl) (Nat.le_of_ble_eq_true rfl)) dX2_reads_186 (tX2_reads_189 EN G hF hC hxt h37 h64 h183) (sx_out G (fun z hz => (hxt z hz).elim)) ) (s_callVU (w := ⟨"ChantRules$Machine", "states", "()I"⟩) (owner := "ChantRules$Machine") G (mX11_states EN) q866 q868 (va_Decl.abs (va_Nw.warmD G.warm (EN.nw q867 rfl))) (by decide +kernel) q870 (sel_cons (r := (RX11, TX11, 3)) (by decide) rfl q869 (sel_nil)) q106 q871 nmk_115 (rm_of hF (Nat.le_of_ble_eq_true rfl) (Nat.le_of_ble_eq_true rfl)) dX2_reads_186 (tX2_reads_189 EN G hF hC hxt h37 h64 h183) (sx_out G (fun z hz => (hxt z hz).elim)) ))
set_option maxHeartbeats 4000000 in
theorem tX2_reads_178 {x : CX} {E : Nat → Value} {Q : Rs → HS → Prop} {X37 X64 X183 : Ct} (EN : EX x E) (G : Gd x cX2_reads "ChantRules$Machine" yX2_reads 9 (Option.some (Jvm.ClassFile.FieldType.object "ChantRules$Way")) Q) (hF : x.1.2.2.2.frames = 407 ∧ x.1.2.2.2.locals = 8986) (hC : x.2.2.2.2.2 = (fun _ => false)) (hxt : (∀ z ∈ x.2.2.1.2.1.exceptionTable.toList, False)) (h37 : Snd x 37 X37) (h64 : Snd x 64 X64) (h183 : Snd x 183 X183) : Snd x 178 (bX2_reads_178 E Q X37 X64 X183) := by
  unfold bX2_reads_178
  refine s_null G.b dX2_reads_178 ?_
  refine s_astore_n rfl G.b (by rw [G.nl]; decide) (fun _ _ => by rw [hC]) dX2_reads_179 ?_
  refine s_iconst (by decide) G.b dX2_reads_180 ?_
  refine s_istore G.b (by rw [G.nl]; decide) (fun _ _ => by rw [hC]) dX2_reads_181 ?_
  exact h183
set_option maxHeartbeats 4000000 in
theorem tX2_reads_168 {x : CX} {E : Nat → Value} {Q : Rs → HS → Prop} {X37 X64 X183 : Ct} (EN : EX x E) (G : Gd x cX2_reads "ChantRules$Machine" yX2_reads 9 (Option.some (Jvm.ClassFile.FieldType.object "ChantRules$Way")) Q) (hF : x.1.2.2.2.frames = 407 ∧ x.1.2.2.2.locals = 8986) (hC : x.2.2.2.2.2 = (fun _ => false)) (hxt : (∀ z ∈ x.2.2.1.2.1.exceptionTable.toList, False)) (h37 : Snd x 37 X37) (h64 : Snd x 64 X64) (h183 : Snd x 183 X183) : Snd x 168 (bX2_reads_168 E Q X37 X64 X183) := by
  unfold bX2_reads_168
  refine s_iadd G.b dX2_reads_168 ?_
  refine s_callVP EN (by decide) G (mX2_breathes EN) q1010 q1011 q1012 q2344 q78 q1013 nmk_116 (rm_of hF (Nat.le_of_ble_eq_true rfl) (Nat.le_of_ble_eq_true rfl)) dX2_reads_169 ?_ (sx_out G (fun z hz => (hxt z hz).elim))
  refine s_iinc (by decide) G.b (by rw [G.nl]; decide) (fun _ _ => by rw [hC]) dX2_reads_172 ?_
  exact s_goto (tgt := 37) G.b dX2_reads_175 (by decide) h37
set_option maxHeartbeats 4000000 in
theorem tX2_reads_160 {x : CX} {E : Nat → Value} {Q : Rs → HS → Prop} {X37 X64 X183 : Ct} (EN : EX x E) (G : Gd x cX2_reads "ChantRules$Machine" yX2_reads 9 (Option.some (Jvm.ClassFile.FieldType.object "ChantRules$Way")) Q) (hF : x.1.2.2.2.frames = 407 ∧ x.1.2.2.2.locals = 8986) (hC : x.2.2.2.2.2 = (fun _ => false)) (hxt : (∀ z ∈ x.2.2.1.2.1.exceptionTable.toList, False)) (h37 : Snd x 37 X37) (h64 : Snd x 64 X64) (h183 : Snd x 183 X183) : Snd x 160 (bX2_reads_160 E Q X37 X64 X183) := by
  unfold bX2_reads_160
  refine s_aload_n rfl G.b dX2_reads_160 ?_
  refine s_aload_n rfl G.b dX2_reads_161 ?_
  refine s_iload G.b dX2_reads_162 ?_
  refine s_aload_n rfl G.b dX2_reads_164 ?_
  exact (s_vsel (s_callVU (w := ⟨"ChantRules$Machine", "states", "()I"⟩) (owner := "ChantRules$Machine") G (mX3_states EN) q866 q868 (va_Decl.abs (va_Nw.warmD G.warm (EN.nw q867 rfl))) (by decide +kernel) q873 (sel_cons (r := (RX3, TX3, 3)) (by decide) rfl q872 (sel_nil)) q79 q874 nmk_115 (rm_of hF (Nat.le_of_ble_eq_true rfl) (Nat.le_of_ble_eq_true rfl)) dX2_reads_165 (tX2_reads_168 EN G hF hC hxt h37 h64 h183) (sx_out G (fun z hz => (hxt z hz).elim)) ) (s_callVU (w := ⟨"ChantRules$Machine", "states", "()I"⟩) (owner := "ChantRules$Machine") G (mX11_states EN) q866 q868 (va_Decl.abs (va_Nw.warmD G.warm (EN.nw q867 rfl))) (by decide +kernel) q870 (sel_cons (r := (RX11, TX11, 3)) (by decide) rfl q869 (sel_nil)) q106 q871 nmk_115 (rm_of hF (Nat.le_of_ble_eq_true rfl) (Nat.le_of_ble_eq_true rfl)) dX2_reads_165 (tX2_reads_168 EN G hF hC hxt h37 h64 h183) (sx_out G (fun z hz => (hxt z hz).elim)) ))
set_option maxHeartbeats 4000000 in
theorem tX2_reads_155 {x : CX} {E : Nat → Value} {Q : Rs → HS → Prop} {X37 X64 X183 : Ct} (EN : EX x E) (G : Gd x cX2_reads "ChantRules$Machine" yX2_reads 9 (Option.some (Jvm.ClassFile.FieldType.object "ChantRules$Way")) Q) (hF : x.1.2.2.2.frames = 407 ∧ x.1.2.2.2.locals = 8986) (hC : x.2.2.2.2.2 = (fun _ => false)) (hxt : (∀ z ∈ x.2.2.1.2.1.exceptionTable.toList, False)) (h37 : Snd x 37 X37) (h64 : Snd x 64 X64) (h183 : Snd x 183 X183) : Snd x 155 (bX2_reads_155 E Q X37 X64 X183) := by
  unfold bX2_reads_155
  refine s_istore G.b (by rw [G.nl]; decide) (fun _ _ => by rw [hC]) dX2_reads_155 ?_
  exact s_goto (tgt := 64) G.b dX2_reads_157 (by decide) h64
set_option maxHeartbeats 4000000 in
theorem tX2_reads_154 {x : CX} {E : Nat → Value} {Q : Rs → HS → Prop} {X37 X64 X183 : Ct} (EN : EX x E) (G : Gd x cX2_reads "ChantRules$Machine" yX2_reads 9 (Option.some (Jvm.ClassFile.FieldType.object "ChantRules$Way")) Q) (hF : x.1.2.2.2.frames = 407 ∧ x.1.2.2.2.locals = 8986) (hC : x.2.2.2.2.2 = (fun _ => false)) (hxt : (∀ z ∈ x.2.2.1.2.1.exceptionTable.toList, False)) (h37 : Snd x 37 X37) (h64 : Snd x 64 X64) (h183 : Snd x 183 X183) : Snd x 154 (bX2_reads_154 E Q X37 X64 X183) := by
  unfold bX2_reads_154
  refine s_iconst (by decide) G.b dX2_reads_154 ?_
  exact (tX2_reads_155 EN G hF hC hxt h37 h64 h183)
set_option maxHeartbeats 4000000 in
theorem tX2_reads_143 {x : CX} {E : Nat → Value} {Q : Rs → HS → Prop} {X37 X64 X183 : Ct} (EN : EX x E) (G : Gd x cX2_reads "ChantRules$Machine" yX2_reads 9 (Option.some (Jvm.ClassFile.FieldType.object "ChantRules$Way")) Q) (hF : x.1.2.2.2.frames = 407 ∧ x.1.2.2.2.locals = 8986) (hC : x.2.2.2.2.2 = (fun _ => false)) (hxt : (∀ z ∈ x.2.2.1.2.1.exceptionTable.toList, False)) (h37 : Snd x 37 X37) (h64 : Snd x 64 X64) (h183 : Snd x 183 X183) : Snd x 143 (bX2_reads_143 E Q X37 X64 X183) := by
  unfold bX2_reads_143
  refine s_iadd G.b dX2_reads_143 ?_
  refine s_callVP EN (by decide) G (mX2_goesOver EN) q1014 q1015 q1016 q2345 q78 q1017 nmk_107 (rm_of hF (Nat.le_of_ble_eq_true rfl) (Nat.le_of_ble_eq_true rfl)) dX2_reads_144 ?_ (sx_out G (fun z hz => (hxt z hz).elim))
  refine s_ifeq (tgt := 154) G.b dX2_reads_147 (by decide) (tX2_reads_154 EN G hF hC hxt h37 h64 h183) ?_
  refine s_iconst (by decide) G.b dX2_reads_150 ?_
  exact s_goto (tgt := 155) G.b dX2_reads_151 (by decide) (tX2_reads_155 EN G hF hC hxt h37 h64 h183)
set_option maxHeartbeats 4000000 in
theorem tX2_reads_124 {x : CX} {E : Nat → Value} {Q : Rs → HS → Prop} {X37 X64 X183 : Ct} (EN : EX x E) (G : Gd x cX2_reads "ChantRules$Machine" yX2_reads 9 (Option.some (Jvm.ClassFile.FieldType.object "ChantRules$Way")) Q) (hF : x.1.2.2.2.frames = 407 ∧ x.1.2.2.2.locals = 8986) (hC : x.2.2.2.2.2 = (fun _ => false)) (hxt : (∀ z ∈ x.2.2.1.2.1.exceptionTable.toList, False)) (h37 : Snd x 37 X37) (h64 : Snd x 64 X64) (h183 : Snd x 183 X183) : Snd x 124 (bX2_reads_124 E Q X37 X64 X183) := by
  unfold bX2_reads_124
  refine s_istore G.b (by rw [G.nl]; decide) (fun _ _ => by rw [hC]) dX2_reads_124 ?_
  refine s_iload G.b dX2_reads_126 ?_
  refine s_ifeq (tgt := 154) G.b dX2_reads_128 (by decide) (tX2_reads_154 EN G hF hC hxt h37 h64 h183) ?_
  refine s_aload_n rfl G.b dX2_reads_131 ?_
  refine s_aload G.b dX2_reads_132 ?_
  refine s_aload_n rfl G.b dX2_reads_134 ?_
  refine s_iload G.b dX2_reads_135 ?_
  refine s_iload G.b dX2_reads_137 ?_
  refine s_aload_n rfl G.b dX2_reads_139 ?_
  exact (s_vsel (s_callVU (w := ⟨"ChantRules$Machine", "states", "()I"⟩) (owner := "ChantRules$Machine") G (mX3_states EN) q866 q868 (va_Decl.abs (va_Nw.warmD G.warm (EN.nw q867 rfl))) (by decide +kernel) q873 (sel_cons (r := (RX3, TX3, 3)) (by decide) rfl q872 (sel_nil)) q79 q874 nmk_115 (rm_of hF (Nat.le_of_ble_eq_true rfl) (Nat.le_of_ble_eq_true rfl)) dX2_reads_140 (tX2_reads_143 EN G hF hC hxt h37 h64 h183) (sx_out G (fun z hz => (hxt z hz).elim)) ) (s_callVU (w := ⟨"ChantRules$Machine", "states", "()I"⟩) (owner := "ChantRules$Machine") G (mX11_states EN) q866 q868 (va_Decl.abs (va_Nw.warmD G.warm (EN.nw q867 rfl))) (by decide +kernel) q870 (sel_cons (r := (RX11, TX11, 3)) (by decide) rfl q869 (sel_nil)) q106 q871 nmk_115 (rm_of hF (Nat.le_of_ble_eq_true rfl) (Nat.le_of_ble_eq_true rfl)) dX2_reads_140 (tX2_reads_143 EN G hF hC hxt h37 h64 h183) (sx_out G (fun z hz => (hxt z hz).elim)) ))
set_option maxHeartbeats 4000000 in
theorem tX2_reads_123 {x : CX} {E : Nat → Value} {Q : Rs → HS → Prop} {X37 X64 X183 : Ct} (EN : EX x E) (G : Gd x cX2_reads "ChantRules$Machine" yX2_reads 9 (Option.some (Jvm.ClassFile.FieldType.object "ChantRules$Way")) Q) (hF : x.1.2.2.2.frames = 407 ∧ x.1.2.2.2.locals = 8986) (hC : x.2.2.2.2.2 = (fun _ => false)) (hxt : (∀ z ∈ x.2.2.1.2.1.exceptionTable.toList, False)) (h37 : Snd x 37 X37) (h64 : Snd x 64 X64) (h183 : Snd x 183 X183) : Snd x 123 (bX2_reads_123 E Q X37 X64 X183) := by
  unfold bX2_reads_123
  refine s_iconst (by decide) G.b dX2_reads_123 ?_
  exact (tX2_reads_124 EN G hF hC hxt h37 h64 h183)
set_option maxHeartbeats 4000000 in
theorem tX2_reads_113 {x : CX} {E : Nat → Value} {Q : Rs → HS → Prop} {X37 X64 X183 : Ct} (EN : EX x E) (G : Gd x cX2_reads "ChantRules$Machine" yX2_reads 9 (Option.some (Jvm.ClassFile.FieldType.object "ChantRules$Way")) Q) (hF : x.1.2.2.2.frames = 407 ∧ x.1.2.2.2.locals = 8986) (hC : x.2.2.2.2.2 = (fun _ => false)) (hxt : (∀ z ∈ x.2.2.1.2.1.exceptionTable.toList, False)) (h37 : Snd x 37 X37) (h64 : Snd x 64 X64) (h183 : Snd x 183 X183) : Snd x 113 (bX2_reads_113 E Q X37 X64 X183) := by
  unfold bX2_reads_113
  refine s_bipush (by decide) G.b dX2_reads_113 ?_
  refine s_isub G.b dX2_reads_115 ?_
  refine s_icmpne (tgt := 123) G.b dX2_reads_116 (by decide) (tX2_reads_123 EN G hF hC hxt h37 h64 h183) ?_
  refine s_iconst (by decide) G.b dX2_reads_119 ?_
  exact s_goto (tgt := 124) G.b dX2_reads_120 (by decide) (tX2_reads_124 EN G hF hC hxt h37 h64 h183)
set_option maxHeartbeats 4000000 in
theorem tX2_reads_64 {x : CX} {E : Nat → Value} {Q : Rs → HS → Prop} {X37 X64 X183 : Ct} (EN : EX x E) (G : Gd x cX2_reads "ChantRules$Machine" yX2_reads 9 (Option.some (Jvm.ClassFile.FieldType.object "ChantRules$Way")) Q) (hF : x.1.2.2.2.frames = 407 ∧ x.1.2.2.2.locals = 8986) (hC : x.2.2.2.2.2 = (fun _ => false)) (hxt : (∀ z ∈ x.2.2.1.2.1.exceptionTable.toList, False)) (h37 : Snd x 37 X37) (h64 : Snd x 64 X64) (h183 : Snd x 183 X183) : Snd x 64 (bX2_reads_64 E Q X37 X64 X183) := by
  unfold bX2_reads_64
  refine s_aload G.b dX2_reads_64 ?_
  refine s_callF (r0 := (RJ9, TJ9, 4)) (w := ⟨"java/util/Iterator", "hasNext", "()Z"⟩) (by decide) rfl G (mJ9_hasNext EN) q886 (va_Fw.moved (by decide +kernel) G.warm.alike ⟨(EN.nw q380 rfl), (EN.nw q379 rfl), (EN.nw q385 rfl), (EN.nw q383 rfl), (EN.nw q381 rfl)⟩) q382 q384 q91 q386 nmk_15 (rm_of hF (Nat.le_of_ble_eq_true rfl) (Nat.le_of_ble_eq_true rfl)) dX2_reads_66 ?_ (sx_out G (fun z hz => (hxt z hz).elim))
  refine s_ifeq (tgt := 160) G.b dX2_reads_71 (by decide) (tX2_reads_160 EN G hF hC hxt h37 h64 h183) ?_
  refine s_aload G.b dX2_reads_74 ?_
  refine s_callF (r0 := (RJ9, TJ9, 4)) (w := ⟨"java/util/Iterator", "next", "()Ljava/lang/Object;"⟩) (by decide) rfl G (mJ9_next EN) q888 (va_Fw.moved (by decide +kernel) G.warm.alike ⟨(EN.nw q390 rfl), (EN.nw q389 rfl), (EN.nw q394 rfl), (EN.nw q392 rfl), (EN.nw q381 rfl)⟩) q391 q393 q91 q395 nmk_16 (rm_of hF (Nat.le_of_ble_eq_true rfl) (Nat.le_of_ble_eq_true rfl)) dX2_reads_76 ?_ (sx_out G (fun z hz => (hxt z hz).elim))
  refine s_cast G.b G.ow G.kn G.hts q889 ct_1 dX2_reads_81 ?_
  refine s_astore G.b (by rw [G.nl]; decide) (fun _ _ => by rw [hC]) dX2_reads_84 ?_
  refine s_aload G.b dX2_reads_86 ?_
  refine s_inst G.b G.ow G.kn G.hts q1058 ct_8y ct_8n dX2_reads_88 ?_
  refine s_ifeq (tgt := 123) G.b dX2_reads_91 (by decide) (tX2_reads_123 EN G hF hC hxt h37 h64 h183) ?_
  refine s_aload G.b dX2_reads_94 ?_
  refine s_cast G.b G.ow G.kn G.hts q1058 ct_9 dX2_reads_96 ?_
  refine s_astore G.b (by rw [G.nl]; decide) (fun _ _ => by rw [hC]) dX2_reads_99 ?_
  refine s_aload G.b dX2_reads_101 ?_
  refine s_getfN G.b G.ow G.kn (va_Nw.use rfl (va_Nw.warmF G.warm (EN.nw q665 rfl))) (fun _ h => h) fa_22 dX2_reads_103 ?_
  refine s_aload_n rfl G.b dX2_reads_106 ?_
  refine s_iload_n rfl G.b dX2_reads_107 ?_
  exact (s_vsel (s_callF (r0 := (RJ5, TJ5, 4)) (w := ⟨"java/lang/CharSequence", "charAt", "(I)C"⟩) (by decide) rfl G (mJ5_charAt EN) q1060 (va_Fw.moved (by decide +kernel) G.warm.alike ⟨(EN.nw q1062 rfl), (EN.nw q1061 rfl), (EN.nw q1086 rfl), (EN.nw q1085 rfl), (EN.nw q990 rfl)⟩) q1084 q944 q85 q946 nmk_117 (rm_of hF (Nat.le_of_ble_eq_true rfl) (Nat.le_of_ble_eq_true rfl)) dX2_reads_108 (tX2_reads_113 EN G hF hC hxt h37 h64 h183) (sx_out G (fun z hz => (hxt z hz).elim)) ) (s_callF (r0 := (RJ6, TJ6, 4)) (w := ⟨"java/lang/CharSequence", "charAt", "(I)C"⟩) (by decide) rfl G (mJ6_charAt EN) q1060 (va_Fw.moved (by decide +kernel) G.warm.alike ⟨(EN.nw q1062 rfl), (EN.nw q1061 rfl), (EN.nw q1066 rfl), (EN.nw q1064 rfl), (EN.nw q979 rfl)⟩) q1063 q1065 q86 q1067 nmk_117 (rm_of hF (Nat.le_of_ble_eq_true rfl) (Nat.le_of_ble_eq_true rfl)) dX2_reads_108 (tX2_reads_113 EN G hF hC hxt h37 h64 h183) (sx_out G (fun z hz => (hxt z hz).elim)) ))
set_option maxHeartbeats 4000000 in
theorem tX2_reads_59 {x : CX} {E : Nat → Value} {Q : Rs → HS → Prop} {X37 X64 X183 : Ct} (EN : EX x E) (G : Gd x cX2_reads "ChantRules$Machine" yX2_reads 9 (Option.some (Jvm.ClassFile.FieldType.object "ChantRules$Way")) Q) (hF : x.1.2.2.2.frames = 407 ∧ x.1.2.2.2.locals = 8986) (hC : x.2.2.2.2.2 = (fun _ => false)) (hxt : (∀ z ∈ x.2.2.1.2.1.exceptionTable.toList, False)) (h37 : Snd x 37 X37) (h64 : Snd x 64 X64) (h183 : Snd x 183 X183) : Snd x 59 (bX2_reads_59 E Q X37 X64 X183) := by
  unfold bX2_reads_59
  refine s_callV G (mJ2_iterator EN) q884 q355 (sel_cons (r := (RJ2, TJ2, 3)) (by decide) rfl q356 (sel_nil)) q82 q357 nmk_18 (rm_of hF (Nat.le_of_ble_eq_true rfl) (Nat.le_of_ble_eq_true rfl)) dX2_reads_59 ?_ (sx_out G (fun z hz => (hxt z hz).elim))
  refine s_astore G.b (by rw [G.nl]; decide) (fun _ _ => by rw [hC]) dX2_reads_62 ?_
  exact h64
set_option maxHeartbeats 4000000 in
theorem tX2_reads_51 {x : CX} {E : Nat → Value} {Q : Rs → HS → Prop} {X37 X64 X183 : Ct} (EN : EX x E) (G : Gd x cX2_reads "ChantRules$Machine" yX2_reads 9 (Option.some (Jvm.ClassFile.FieldType.object "ChantRules$Way")) Q) (hF : x.1.2.2.2.frames = 407 ∧ x.1.2.2.2.locals = 8986) (hC : x.2.2.2.2.2 = (fun _ => false)) (hxt : (∀ z ∈ x.2.2.1.2.1.exceptionTable.toList, False)) (h37 : Snd x 37 X37) (h64 : Snd x 64 X64) (h183 : Snd x 183 X183) : Snd x 51 (bX2_reads_51 E Q X37 X64 X183) := by
  unfold bX2_reads_51
  refine s_iload_n rfl G.b dX2_reads_51 ?_
  refine s_imul G.b dX2_reads_52 ?_
  refine s_istore G.b (by rw [G.nl]; decide) (fun _ _ => by rw [hC]) dX2_reads_53 ?_
  refine s_aload_n rfl G.b dX2_reads_55 ?_
  exact (s_vsel (s_callVU (w := ⟨"ChantRules$Machine", "arcs", "()Ljava/util/ArrayList;"⟩) (owner := "ChantRules$Machine") G (mX3_arcs EN) q875 q877 (va_Decl.abs (va_Nw.warmD G.warm (EN.nw q876 rfl))) (by decide +kernel) q882 (sel_cons (r := (RX3, TX3, 3)) (by decide) rfl q881 (sel_nil)) q79 q883 nmk_108 (rm_of hF (Nat.le_of_ble_eq_true rfl) (Nat.le_of_ble_eq_true rfl)) dX2_reads_56 (tX2_reads_59 EN G hF hC hxt h37 h64 h183) (sx_out G (fun z hz => (hxt z hz).elim)) ) (s_callVU (w := ⟨"ChantRules$Machine", "arcs", "()Ljava/util/ArrayList;"⟩) (owner := "ChantRules$Machine") G (mX11_arcs EN) q875 q877 (va_Decl.abs (va_Nw.warmD G.warm (EN.nw q876 rfl))) (by decide +kernel) q879 (sel_cons (r := (RX11, TX11, 3)) (by decide) rfl q878 (sel_nil)) q106 q880 nmk_108 (rm_of hF (Nat.le_of_ble_eq_true rfl) (Nat.le_of_ble_eq_true rfl)) dX2_reads_56 (tX2_reads_59 EN G hF hC hxt h37 h64 h183) (sx_out G (fun z hz => (hxt z hz).elim)) ))
set_option maxHeartbeats 4000000 in
theorem tX2_reads_44 {x : CX} {E : Nat → Value} {Q : Rs → HS → Prop} {X37 X64 X183 : Ct} (EN : EX x E) (G : Gd x cX2_reads "ChantRules$Machine" yX2_reads 9 (Option.some (Jvm.ClassFile.FieldType.object "ChantRules$Way")) Q) (hF : x.1.2.2.2.frames = 407 ∧ x.1.2.2.2.locals = 8986) (hC : x.2.2.2.2.2 = (fun _ => false)) (hxt : (∀ z ∈ x.2.2.1.2.1.exceptionTable.toList, False)) (h37 : Snd x 37 X37) (h64 : Snd x 64 X64) (h183 : Snd x 183 X183) : Snd x 44 (bX2_reads_44 E Q X37 X64 X183) := by
  unfold bX2_reads_44
  refine s_icmpge (tgt := 178) G.b dX2_reads_44 (by decide) (tX2_reads_178 EN G hF hC hxt h37 h64 h183) ?_
  refine s_aload_n rfl G.b dX2_reads_47 ?_
  exact (s_vsel (s_callVU (w := ⟨"ChantRules$Machine", "states", "()I"⟩) (owner := "ChantRules$Machine") G (mX3_states EN) q866 q868 (va_Decl.abs (va_Nw.warmD G.warm (EN.nw q867 rfl))) (by decide +kernel) q873 (sel_cons (r := (RX3, TX3, 3)) (by decide) rfl q872 (sel_nil)) q79 q874 nmk_115 (rm_of hF (Nat.le_of_ble_eq_true rfl) (Nat.le_of_ble_eq_true rfl)) dX2_reads_48 (tX2_reads_51 EN G hF hC hxt h37 h64 h183) (sx_out G (fun z hz => (hxt z hz).elim)) ) (s_callVU (w := ⟨"ChantRules$Machine", "states", "()I"⟩) (owner := "ChantRules$Machine") G (mX11_states EN) q866 q868 (va_Decl.abs (va_Nw.warmD G.warm (EN.nw q867 rfl))) (by decide +kernel) q870 (sel_cons (r := (RX11, TX11, 3)) (by decide) rfl q869 (sel_nil)) q106 q871 nmk_115 (rm_of hF (Nat.le_of_ble_eq_true rfl) (Nat.le_of_ble_eq_true rfl)) dX2_reads_48 (tX2_reads_51 EN G hF hC hxt h37 h64 h183) (sx_out G (fun z hz => (hxt z hz).elim)) ))
set_option maxHeartbeats 4000000 in
theorem tX2_reads_37 {x : CX} {E : Nat → Value} {Q : Rs → HS → Prop} {X37 X64 X183 : Ct} (EN : EX x E) (G : Gd x cX2_reads "ChantRules$Machine" yX2_reads 9 (Option.some (Jvm.ClassFile.FieldType.object "ChantRules$Way")) Q) (hF : x.1.2.2.2.frames = 407 ∧ x.1.2.2.2.locals = 8986) (hC : x.2.2.2.2.2 = (fun _ => false)) (hxt : (∀ z ∈ x.2.2.1.2.1.exceptionTable.toList, False)) (h37 : Snd x 37 X37) (h64 : Snd x 64 X64) (h183 : Snd x 183 X183) : Snd x 37 (bX2_reads_37 E Q X37 X64 X183) := by
  unfold bX2_reads_37
  refine s_iload_n rfl G.b dX2_reads_37 ?_
  refine s_aload_n rfl G.b dX2_reads_38 ?_
  exact (s_vsel (s_callF (r0 := (RJ5, TJ5, 4)) (w := ⟨"java/lang/CharSequence", "length", "()I"⟩) (by decide) rfl G (mJ5_length EN) q976 (va_Fw.moved (by decide +kernel) G.warm.alike ⟨(EN.nw q978 rfl), (EN.nw q977 rfl), (EN.nw q993 rfl), (EN.nw q992 rfl), (EN.nw q990 rfl)⟩) q991 q937 q85 q939 nmk_114 (rm_of hF (Nat.le_of_ble_eq_true rfl) (Nat.le_of_ble_eq_true rfl)) dX2_reads_39 (tX2_reads_44 EN G hF hC hxt h37 h64 h183) (sx_out G (fun z hz => (hxt z hz).elim)) ) (s_callF (r0 := (RJ6, TJ6, 4)) (w := ⟨"java/lang/CharSequence", "length", "()I"⟩) (by decide) rfl G (mJ6_length EN) q976 (va_Fw.moved (by decide +kernel) G.warm.alike ⟨(EN.nw q978 rfl), (EN.nw q977 rfl), (EN.nw q983 rfl), (EN.nw q981 rfl), (EN.nw q979 rfl)⟩) q980 q982 q86 q984 nmk_114 (rm_of hF (Nat.le_of_ble_eq_true rfl) (Nat.le_of_ble_eq_true rfl)) dX2_reads_39 (tX2_reads_44 EN G hF hC hxt h37 h64 h183) (sx_out G (fun z hz => (hxt z hz).elim)) ))
set_option maxHeartbeats 4000000 in
theorem tX2_reads_10 {x : CX} {E : Nat → Value} {Q : Rs → HS → Prop} {X37 X64 X183 : Ct} (EN : EX x E) (G : Gd x cX2_reads "ChantRules$Machine" yX2_reads 9 (Option.some (Jvm.ClassFile.FieldType.object "ChantRules$Way")) Q) (hF : x.1.2.2.2.frames = 407 ∧ x.1.2.2.2.locals = 8986) (hC : x.2.2.2.2.2 = (fun _ => false)) (hxt : (∀ z ∈ x.2.2.1.2.1.exceptionTable.toList, False)) (h37 : Snd x 37 X37) (h64 : Snd x 64 X64) (h183 : Snd x 183 X183) : Snd x 10 (bX2_reads_10 E Q X37 X64 X183) := by
  unfold bX2_reads_10
  refine s_iconst (by decide) G.b dX2_reads_10 ?_
  refine s_iadd G.b dX2_reads_11 ?_
  refine s_imul G.b dX2_reads_12 ?_
  refine s_anewa G.b G.ow G.kn G.gr G.hts q994 (va_AO.moved G.warm.alike (EN.ao q995)) (by decide) (by decide) rfl dX2_reads_13 ?_
  refine s_astore_n rfl G.b (by rw [G.nl]; decide) (fun _ _ => by rw [hC]) dX2_reads_16 ?_
  refine s_aload_n rfl G.b dX2_reads_17 ?_
  refine s_iconst (by decide) G.b dX2_reads_18 ?_
  refine s_new (C := RX9) (T0 := TX9) (N := 2) G.b G.ow G.kn G.gr G.hts rfl (by decide) in_X9 q994 q996 q103 tyX9 tyX9_ok rfl dX2_reads_19 ?_
  refine s_dup G.b dX2_reads_22 ?_
  refine s_iconst (by decide) G.b dX2_reads_23 ?_
  refine s_null G.b dX2_reads_24 ?_
  refine s_callI G (mX9_init EN) rfl q997 q998 q103 q999 nmk_103 (rm_of hF (Nat.le_of_ble_eq_true rfl) (Nat.le_of_ble_eq_true rfl)) dX2_reads_25 ?_ (sx_out G (fun z hz => (hxt z hz).elim))
  refine s_aast G.b G.kn dX2_reads_28 ?_
  refine s_aload_n rfl G.b dX2_reads_29 ?_
  refine s_aload_n rfl G.b dX2_reads_30 ?_
  refine s_iconst (by decide) G.b dX2_reads_31 ?_
  refine s_callVP EN (by decide) G (mX2_breathes EN) q1010 q1011 q1012 q2344 q78 q1013 nmk_116 (rm_of hF (Nat.le_of_ble_eq_true rfl) (Nat.le_of_ble_eq_true rfl)) dX2_reads_32 ?_ (sx_out G (fun z hz => (hxt z hz).elim))
  refine s_iconst (by decide) G.b dX2_reads_35 ?_
  refine s_istore_n rfl G.b (by rw [G.nl]; decide) (fun _ _ => by rw [hC]) dX2_reads_36 ?_
  exact h37
set_option maxHeartbeats 4000000 in
theorem tX2_reads_4 {x : CX} {E : Nat → Value} {Q : Rs → HS → Prop} {X37 X64 X183 : Ct} (EN : EX x E) (G : Gd x cX2_reads "ChantRules$Machine" yX2_reads 9 (Option.some (Jvm.ClassFile.FieldType.object "ChantRules$Way")) Q) (hF : x.1.2.2.2.frames = 407 ∧ x.1.2.2.2.locals = 8986) (hC : x.2.2.2.2.2 = (fun _ => false)) (hxt : (∀ z ∈ x.2.2.1.2.1.exceptionTable.toList, False)) (h37 : Snd x 37 X37) (h64 : Snd x 64 X64) (h183 : Snd x 183 X183) : Snd x 4 (bX2_reads_4 E Q X37 X64 X183) := by
  unfold bX2_reads_4
  refine s_aload_n rfl G.b dX2_reads_4 ?_
  exact (s_vsel (s_callF (r0 := (RJ5, TJ5, 4)) (w := ⟨"java/lang/CharSequence", "length", "()I"⟩) (by decide) rfl G (mJ5_length EN) q976 (va_Fw.moved (by decide +kernel) G.warm.alike ⟨(EN.nw q978 rfl), (EN.nw q977 rfl), (EN.nw q993 rfl), (EN.nw q992 rfl), (EN.nw q990 rfl)⟩) q991 q937 q85 q939 nmk_114 (rm_of hF (Nat.le_of_ble_eq_true rfl) (Nat.le_of_ble_eq_true rfl)) dX2_reads_5 (tX2_reads_10 EN G hF hC hxt h37 h64 h183) (sx_out G (fun z hz => (hxt z hz).elim)) ) (s_callF (r0 := (RJ6, TJ6, 4)) (w := ⟨"java/lang/CharSequence", "length", "()I"⟩) (by decide) rfl G (mJ6_length EN) q976 (va_Fw.moved (by decide +kernel) G.warm.alike ⟨(EN.nw q978 rfl), (EN.nw q977 rfl), (EN.nw q983 rfl), (EN.nw q981 rfl), (EN.nw q979 rfl)⟩) q980 q982 q86 q984 nmk_114 (rm_of hF (Nat.le_of_ble_eq_true rfl) (Nat.le_of_ble_eq_true rfl)) dX2_reads_5 (tX2_reads_10 EN G hF hC hxt h37 h64 h183) (sx_out G (fun z hz => (hxt z hz).elim)) ))
set_option maxHeartbeats 4000000 in
theorem tX2_reads_0 {x : CX} {E : Nat → Value} {Q : Rs → HS → Prop} {X37 X64 X183 : Ct} (EN : EX x E) (G : Gd x cX2_reads "ChantRules$Machine" yX2_reads 9 (Option.some (Jvm.ClassFile.FieldType.object "ChantRules$Way")) Q) (hF : x.1.2.2.2.frames = 407 ∧ x.1.2.2.2.locals = 8986) (hC : x.2.2.2.2.2 = (fun _ => false)) (hxt : (∀ z ∈ x.2.2.1.2.1.exceptionTable.toList, False)) (h37 : Snd x 37 X37) (h64 : Snd x 64 X64) (h183 : Snd x 183 X183) : Snd x 0 (bX2_reads_0 E Q X37 X64 X183) := by
  unfold bX2_reads_0
  refine s_aload_n rfl G.b dX2_reads_0 ?_
  exact (s_vsel (s_callVU (w := ⟨"ChantRules$Machine", "states", "()I"⟩) (owner := "ChantRules$Machine") G (mX3_states EN) q866 q868 (va_Decl.abs (va_Nw.warmD G.warm (EN.nw q867 rfl))) (by decide +kernel) q873 (sel_cons (r := (RX3, TX3, 3)) (by decide) rfl q872 (sel_nil)) q79 q874 nmk_115 (rm_of hF (Nat.le_of_ble_eq_true rfl) (Nat.le_of_ble_eq_true rfl)) dX2_reads_1 (tX2_reads_4 EN G hF hC hxt h37 h64 h183) (sx_out G (fun z hz => (hxt z hz).elim)) ) (s_callVU (w := ⟨"ChantRules$Machine", "states", "()I"⟩) (owner := "ChantRules$Machine") G (mX11_states EN) q866 q868 (va_Decl.abs (va_Nw.warmD G.warm (EN.nw q867 rfl))) (by decide +kernel) q870 (sel_cons (r := (RX11, TX11, 3)) (by decide) rfl q869 (sel_nil)) q106 q871 nmk_115 (rm_of hF (Nat.le_of_ble_eq_true rfl) (Nat.le_of_ble_eq_true rfl)) dX2_reads_1 (tX2_reads_4 EN G hF hC hxt h37 h64 h183) (sx_out G (fun z hz => (hxt z hz).elim)) ))
set_option maxHeartbeats 4000000 in
theorem mX2_reads {l : Launch} {D : DE} {s0 : State} {E : Nat → Value} (EN : EV l D s0 E) : rMet l D s0 yX2_reads (ws_ yX2_reads cX2_reads 9 (Option.some (Jvm.ClassFile.FieldType.object "ChantRules$Way"))) 407 8986 (wX2_reads E) := by
  refine body_met (fun _ => false) EN.kn (fun w h => h) (by decide +kernel) rfl (fun av h Q hw => ?_) ?_
  · unfold wX2_reads at hw
    split at hw
    · exact Nat.le_of_ble_eq_true rfl
    · exact hw.elim
  · intro p e s m below meth c av h Q hxt G hw
    unfold wX2_reads at hw
    split at hw
    · exact tX2_reads_0 EN G ⟨rfl, rfl⟩ rfl hxt (fun _ _ _ h => h) (fun _ _ _ h => h) (fun _ _ _ h => h) _ _ _ (hw (AW _ 37) (AW _ 64) (AW _ 183) (tX2_reads_37 EN G ⟨rfl, rfl⟩ rfl hxt (fun _ _ _ h => h) (fun _ _ _ h => h) (fun _ _ _ h => h)) (tX2_reads_64 EN G ⟨rfl, rfl⟩ rfl hxt (fun _ _ _ h => h) (fun _ _ _ h => h) (fun _ _ _ h => h)) (tX2_reads_183 EN G ⟨rfl, rfl⟩ rfl hxt (fun _ _ _ h => h) (fun _ _ _ h => h) (fun _ _ _ h => h)))
    · exact hw.elim
/-! ChantRules.both()I (X0_both) -/
theorem nmk_118 : nm_ok yX0_isWord 0 := ⟨by decide +kernel, by decide +kernel, by decide +kernel⟩
theorem nmk_119 : nm_ok yX1_composed 1 := ⟨by decide +kernel, by decide +kernel, by decide +kernel⟩
theorem nmk_120 : nm_ok ⟨"ChantRules$Composed", "reads", "(Ljava/lang/CharSequence;)LChantRules$Way;"⟩ 1 := ⟨by decide +kernel, by decide +kernel, by decide +kernel⟩
theorem nmk_121 : nm_ok yX0_weightOf 1 := ⟨by decide +kernel, by decide +kernel, by decide +kernel⟩
def bX0_both_33 (E : Nat → Value) (Q : Rs → HS → Prop) : Ct :=
  o_ireturn .int Q
def bX0_both_31 (E : Nat → Value) (Q : Rs → HS → Prop) : Ct :=
  o_push (.int (-12)) <|
  (bX0_both_33 E Q)
def bX0_both_0 (E : Nat → Value) (Q : Rs → HS → Prop) : Ct :=
  o_aload 0 <|
  o_callV [0] 1 (wX0_isWord E) (x_out Q) <|
  o_ifeq (bX0_both_31 E Q) <|
  o_aload 0 <|
  o_getf [0] 1 <|
  o_aload 0 <|
  o_getf [0] 0 <|
  o_callV [1] 2 (wX1_composed E) (x_out Q) <|
  o_aload 0 <|
  o_getf [0] 8 <|
  o_callV [4] 2 (wX2_reads E) (x_out Q) <|
  o_call 1 (wX0_weightOf E) (x_out Q) <|
  (bX0_both_33 E Q)
def wX0_both (E : Nat → Value) : Wp := fun av h Q => match av with
  | [a0] => bX0_both_0 E Q [a0] [] h
  | _ => False
set_option maxHeartbeats 4000000 in
theorem tX0_both_33 {x : CX} {E : Nat → Value} {Q : Rs → HS → Prop} (EN : EX x E) (G : Gd x cX0_both "ChantRules" yX0_both 1 (Option.some Jvm.ClassFile.FieldType.int) Q) (hF : x.1.2.2.2.frames = 408 ∧ x.1.2.2.2.locals = 9014) (hC : x.2.2.2.2.2 = (fun _ => false)) (hxt : (∀ z ∈ x.2.2.1.2.1.exceptionTable.toList, False)) : Snd x 33 (bX0_both_33 E Q) := by
  unfold bX0_both_33
  exact s_ireturn G dX0_both_33
set_option maxHeartbeats 4000000 in
theorem tX0_both_31 {x : CX} {E : Nat → Value} {Q : Rs → HS → Prop} (EN : EX x E) (G : Gd x cX0_both "ChantRules" yX0_both 1 (Option.some Jvm.ClassFile.FieldType.int) Q) (hF : x.1.2.2.2.frames = 408 ∧ x.1.2.2.2.locals = 9014) (hC : x.2.2.2.2.2 = (fun _ => false)) (hxt : (∀ z ∈ x.2.2.1.2.1.exceptionTable.toList, False)) : Snd x 31 (bX0_both_31 E Q) := by
  unfold bX0_both_31
  refine s_bipush (by decide) G.b dX0_both_31 ?_
  exact (tX0_both_33 EN G hF hC hxt)
set_option maxHeartbeats 4000000 in
theorem tX0_both_0 {x : CX} {E : Nat → Value} {Q : Rs → HS → Prop} (EN : EX x E) (G : Gd x cX0_both "ChantRules" yX0_both 1 (Option.some Jvm.ClassFile.FieldType.int) Q) (hF : x.1.2.2.2.frames = 408 ∧ x.1.2.2.2.locals = 9014) (hC : x.2.2.2.2.2 = (fun _ => false)) (hxt : (∀ z ∈ x.2.2.1.2.1.exceptionTable.toList, False)) : Snd x 0 (bX0_both_0 E Q) := by
  unfold bX0_both_0
  refine s_aload_n rfl G.b dX0_both_0 ?_
  refine s_callV G (mX0_isWord EN) q932 q934 (sel_cons (r := (RX0, TX0, 10)) (by decide) rfl qs10 (sel_nil)) q76 q935 nmk_118 (rm_of hF (Nat.le_of_ble_eq_true rfl) (Nat.le_of_ble_eq_true rfl)) dX0_both_1 ?_ (sx_out G (fun z hz => (hxt z hz).elim))
  refine s_ifeq (tgt := 31) G.b dX0_both_4 (by decide) (tX0_both_31 EN G hF hC hxt) ?_
  refine s_aload_n rfl G.b dX0_both_7 ?_
  refine s_getf G.b G.ow G.kn (G.hts _ q300) (fun _ h => h) fa_11 dX0_both_8 ?_
  refine s_aload_n rfl G.b dX0_both_11 ?_
  refine s_getf G.b G.ow G.kn (G.hts _ q299) (fun _ h => h) fa_10 dX0_both_12 ?_
  refine s_callV G (mX1_composed EN) q1241 q1242 (sel_cons (r := (RX1, TX1, 4)) (by decide) rfl q1243 (sel_nil)) q77 q1244 nmk_119 (rm_of hF (Nat.le_of_ble_eq_true rfl) (Nat.le_of_ble_eq_true rfl)) dX0_both_15 ?_ (sx_out G (fun z hz => (hxt z hz).elim))
  refine s_aload_n rfl G.b dX0_both_18 ?_
  refine s_getf G.b G.ow G.kn (G.hts _ q307) (fun _ h => h) fa_13 dX0_both_19 ?_
  refine s_callVU (w := ⟨"ChantRules$Composed", "reads", "(Ljava/lang/CharSequence;)LChantRules$Way;"⟩) (owner := "ChantRules$Machine") G (mX2_reads EN) q1298 q1299 (va_Decl.of (G.hts _ q973) (G.hts _ q974)) (by decide +kernel) q973 (sel_cons (r := (RX11, TX11, 3)) (by decide) rfl q1300 (sel_nil)) q78 q974 nmk_120 (rm_of hF (Nat.le_of_ble_eq_true rfl) (Nat.le_of_ble_eq_true rfl)) dX0_both_22 ?_ (sx_out G (fun z hz => (hxt z hz).elim))
  refine s_callS G (mX0_weightOf EN) q1087 q1088 q76 q1089 nmk_121 (rm_of hF (Nat.le_of_ble_eq_true rfl) (Nat.le_of_ble_eq_true rfl)) dX0_both_25 ?_ (sx_out G (fun z hz => (hxt z hz).elim))
  exact s_goto (tgt := 33) G.b dX0_both_28 (by decide) (tX0_both_33 EN G hF hC hxt)
set_option maxHeartbeats 4000000 in
theorem mX0_both {l : Launch} {D : DE} {s0 : State} {E : Nat → Value} (EN : EV l D s0 E) : rMet l D s0 yX0_both (ws_ yX0_both cX0_both 1 (Option.some Jvm.ClassFile.FieldType.int)) 408 9014 (wX0_both E) := by
  refine body_met (fun _ => false) EN.kn (fun w h => h) (by decide +kernel) rfl (fun av h Q hw => ?_) ?_
  · unfold wX0_both at hw
    split at hw
    · exact Nat.le_of_ble_eq_true rfl
    · exact hw.elim
  · intro p e s m below meth c av h Q hxt G hw
    unfold wX0_both at hw
    split at hw
    · exact tX0_both_0 EN G ⟨rfl, rfl⟩ rfl hxt _ _ _ hw
    · exact hw.elim
/-! ChantRules$Choir.best([II)I (X1_best) -/
def bX1_best_161 (E : Nat → Value) (Q : Rs → HS → Prop) (X6 X23 : Ct) : Ct :=
  o_ireturn .int Q
def bX1_best_160 (E : Nat → Value) (Q : Rs → HS → Prop) (X6 X23 : Ct) : Ct :=
  o_iload 3 <|
  (bX1_best_161 E Q X6 X23)
def bX1_best_149 (E : Nat → Value) (Q : Rs → HS → Prop) (X6 X23 : Ct) : Ct :=
  o_iload 3 <|
  o_push (.int 1000000) <|
  o_icmplt (bX1_best_160 E Q X6 X23) <|
  o_push (.int (-15)) <|
  (bX1_best_161 E Q X6 X23)
def bX1_best_143 (E : Nat → Value) (Q : Rs → HS → Prop) (X6 X23 : Ct) : Ct :=
  o_iinc 4 1 <|
  X6
def bX1_best_136 (E : Nat → Value) (Q : Rs → HS → Prop) (X6 X23 : Ct) : Ct :=
  o_istore 3 <|
  o_iinc 5 1 <|
  X23
def bX1_best_135 (E : Nat → Value) (Q : Rs → HS → Prop) (X6 X23 : Ct) : Ct :=
  o_iload 3 <|
  (bX1_best_136 E Q X6 X23)
def bX1_best_72 (E : Nat → Value) (Q : Rs → HS → Prop) (X6 X23 : Ct) : Ct :=
  o_istore 6 <|
  o_aload 1 <|
  o_iload 2 <|
  o_aload 0 <|
  o_getf [1] 0 <|
  o_push (.int 1) <|
  o_ald [103, 104, 105, 106, 107] <|
  o_getf [2] 2 <|
  o_iload 4 <|
  o_imul <|
  o_iadd <|
  o_iload 5 <|
  o_iadd <|
  o_ald [100] <|
  o_aload 0 <|
  o_getf [1] 0 <|
  o_push (.int 0) <|
  o_ald [103, 104, 105, 106, 107] <|
  o_iload 4 <|
  o_callV [2] 2 (wX3_end E) (x_out Q) <|
  o_iadd <|
  o_aload 0 <|
  o_getf [1] 0 <|
  o_push (.int 1) <|
  o_ald [103, 104, 105, 106, 107] <|
  o_iload 5 <|
  o_callV [2] 2 (wX3_end E) (x_out Q) <|
  o_iadd <|
  o_istore 7 <|
  o_iload 6 <|
  o_ifeq (bX1_best_135 E Q X6 X23) <|
  o_iload 7 <|
  o_iload 3 <|
  o_icmpge (bX1_best_135 E Q X6 X23) <|
  o_iload 7 <|
  (bX1_best_136 E Q X6 X23)
def bX1_best_71 (E : Nat → Value) (Q : Rs → HS → Prop) (X6 X23 : Ct) : Ct :=
  o_push (.int 0) <|
  (bX1_best_72 E Q X6 X23)
def bX1_best_23 (E : Nat → Value) (Q : Rs → HS → Prop) (X6 X23 : Ct) : Ct :=
  o_iload 5 <|
  o_aload 0 <|
  o_getf [1] 0 <|
  o_push (.int 1) <|
  o_ald [103, 104, 105, 106, 107] <|
  o_getf [2] 2 <|
  o_icmpge (bX1_best_143 E Q X6 X23) <|
  o_aload 0 <|
  o_getf [1] 0 <|
  o_push (.int 0) <|
  o_ald [103, 104, 105, 106, 107] <|
  o_iload 4 <|
  o_callV [2] 2 (wX3_end E) (x_out Q) <|
  o_push (.int (-1)) <|
  o_icmpeq (bX1_best_71 E Q X6 X23) <|
  o_aload 0 <|
  o_getf [1] 0 <|
  o_push (.int 1) <|
  o_ald [103, 104, 105, 106, 107] <|
  o_iload 5 <|
  o_callV [2] 2 (wX3_end E) (x_out Q) <|
  o_push (.int (-1)) <|
  o_icmpeq (bX1_best_71 E Q X6 X23) <|
  o_push (.int 1) <|
  (bX1_best_72 E Q X6 X23)
def bX1_best_6 (E : Nat → Value) (Q : Rs → HS → Prop) (X6 X23 : Ct) : Ct :=
  o_iload 4 <|
  o_aload 0 <|
  o_getf [1] 0 <|
  o_push (.int 0) <|
  o_ald [103, 104, 105, 106, 107] <|
  o_getf [2] 2 <|
  o_icmpge (bX1_best_149 E Q X6 X23) <|
  o_push (.int 0) <|
  o_istore 5 <|
  X23
def bX1_best_0 (E : Nat → Value) (Q : Rs → HS → Prop) (X6 X23 : Ct) : Ct :=
  o_push (.int 1000000) <|
  o_istore 3 <|
  o_push (.int 0) <|
  o_istore 4 <|
  X6
def wX1_best (E : Nat → Value) : Wp := fun av h Q => match av with
  | [a0, a1, a2] => ∀ X6 X23 : Ct, (∀ ls st h, bX1_best_6 E Q X6 X23 ls st h → X6 ls st h) → (∀ ls st h, bX1_best_23 E Q X6 X23 ls st h → X23 ls st h) → bX1_best_0 E Q X6 X23 [a0, a1, a2, jk, jk, jk, jk, jk] [] h
  | _ => False
set_option maxHeartbeats 4000000 in
theorem tX1_best_161 {x : CX} {E : Nat → Value} {Q : Rs → HS → Prop} {X6 X23 : Ct} (EN : EX x E) (G : Gd x cX1_best "ChantRules$Choir" yX1_best 8 (Option.some Jvm.ClassFile.FieldType.int) Q) (hF : x.1.2.2.2.frames = 3 ∧ x.1.2.2.2.locals = 85) (hC : x.2.2.2.2.2 = (fun _ => false)) (hxt : (∀ z ∈ x.2.2.1.2.1.exceptionTable.toList, False)) (h6 : Snd x 6 X6) (h23 : Snd x 23 X23) : Snd x 161 (bX1_best_161 E Q X6 X23) := by
  unfold bX1_best_161
  exact s_ireturn G dX1_best_161
set_option maxHeartbeats 4000000 in
theorem tX1_best_160 {x : CX} {E : Nat → Value} {Q : Rs → HS → Prop} {X6 X23 : Ct} (EN : EX x E) (G : Gd x cX1_best "ChantRules$Choir" yX1_best 8 (Option.some Jvm.ClassFile.FieldType.int) Q) (hF : x.1.2.2.2.frames = 3 ∧ x.1.2.2.2.locals = 85) (hC : x.2.2.2.2.2 = (fun _ => false)) (hxt : (∀ z ∈ x.2.2.1.2.1.exceptionTable.toList, False)) (h6 : Snd x 6 X6) (h23 : Snd x 23 X23) : Snd x 160 (bX1_best_160 E Q X6 X23) := by
  unfold bX1_best_160
  refine s_iload_n rfl G.b dX1_best_160 ?_
  exact (tX1_best_161 EN G hF hC hxt h6 h23)
set_option maxHeartbeats 4000000 in
theorem tX1_best_149 {x : CX} {E : Nat → Value} {Q : Rs → HS → Prop} {X6 X23 : Ct} (EN : EX x E) (G : Gd x cX1_best "ChantRules$Choir" yX1_best 8 (Option.some Jvm.ClassFile.FieldType.int) Q) (hF : x.1.2.2.2.frames = 3 ∧ x.1.2.2.2.locals = 85) (hC : x.2.2.2.2.2 = (fun _ => false)) (hxt : (∀ z ∈ x.2.2.1.2.1.exceptionTable.toList, False)) (h6 : Snd x 6 X6) (h23 : Snd x 23 X23) : Snd x 149 (bX1_best_149 E Q X6 X23) := by
  unfold bX1_best_149
  refine s_iload_n rfl G.b dX1_best_149 ?_
  refine s_ldcI G.b G.ow G.hts q1311 dX1_best_150 ?_
  refine s_icmplt (tgt := 160) G.b dX1_best_152 (by decide) (tX1_best_160 EN G hF hC hxt h6 h23) ?_
  refine s_bipush (by decide) G.b dX1_best_155 ?_
  exact s_goto (tgt := 161) G.b dX1_best_157 (by decide) (tX1_best_161 EN G hF hC hxt h6 h23)
set_option maxHeartbeats 4000000 in
theorem tX1_best_143 {x : CX} {E : Nat → Value} {Q : Rs → HS → Prop} {X6 X23 : Ct} (EN : EX x E) (G : Gd x cX1_best "ChantRules$Choir" yX1_best 8 (Option.some Jvm.ClassFile.FieldType.int) Q) (hF : x.1.2.2.2.frames = 3 ∧ x.1.2.2.2.locals = 85) (hC : x.2.2.2.2.2 = (fun _ => false)) (hxt : (∀ z ∈ x.2.2.1.2.1.exceptionTable.toList, False)) (h6 : Snd x 6 X6) (h23 : Snd x 23 X23) : Snd x 143 (bX1_best_143 E Q X6 X23) := by
  unfold bX1_best_143
  refine s_iinc (by decide) G.b (by rw [G.nl]; decide) (fun _ _ => by rw [hC]) dX1_best_143 ?_
  exact s_goto (tgt := 6) G.b dX1_best_146 (by decide) h6
set_option maxHeartbeats 4000000 in
theorem tX1_best_136 {x : CX} {E : Nat → Value} {Q : Rs → HS → Prop} {X6 X23 : Ct} (EN : EX x E) (G : Gd x cX1_best "ChantRules$Choir" yX1_best 8 (Option.some Jvm.ClassFile.FieldType.int) Q) (hF : x.1.2.2.2.frames = 3 ∧ x.1.2.2.2.locals = 85) (hC : x.2.2.2.2.2 = (fun _ => false)) (hxt : (∀ z ∈ x.2.2.1.2.1.exceptionTable.toList, False)) (h6 : Snd x 6 X6) (h23 : Snd x 23 X23) : Snd x 136 (bX1_best_136 E Q X6 X23) := by
  unfold bX1_best_136
  refine s_istore_n rfl G.b (by rw [G.nl]; decide) (fun _ _ => by rw [hC]) dX1_best_136 ?_
  refine s_iinc (by decide) G.b (by rw [G.nl]; decide) (fun _ _ => by rw [hC]) dX1_best_137 ?_
  exact s_goto (tgt := 23) G.b dX1_best_140 (by decide) h23
set_option maxHeartbeats 4000000 in
theorem tX1_best_135 {x : CX} {E : Nat → Value} {Q : Rs → HS → Prop} {X6 X23 : Ct} (EN : EX x E) (G : Gd x cX1_best "ChantRules$Choir" yX1_best 8 (Option.some Jvm.ClassFile.FieldType.int) Q) (hF : x.1.2.2.2.frames = 3 ∧ x.1.2.2.2.locals = 85) (hC : x.2.2.2.2.2 = (fun _ => false)) (hxt : (∀ z ∈ x.2.2.1.2.1.exceptionTable.toList, False)) (h6 : Snd x 6 X6) (h23 : Snd x 23 X23) : Snd x 135 (bX1_best_135 E Q X6 X23) := by
  unfold bX1_best_135
  refine s_iload_n rfl G.b dX1_best_135 ?_
  exact (tX1_best_136 EN G hF hC hxt h6 h23)
set_option maxHeartbeats 4000000 in
theorem tX1_best_72 {x : CX} {E : Nat → Value} {Q : Rs → HS → Prop} {X6 X23 : Ct} (EN : EX x E) (G : Gd x cX1_best "ChantRules$Choir" yX1_best 8 (Option.some Jvm.ClassFile.FieldType.int) Q) (hF : x.1.2.2.2.frames = 3 ∧ x.1.2.2.2.locals = 85) (hC : x.2.2.2.2.2 = (fun _ => false)) (hxt : (∀ z ∈ x.2.2.1.2.1.exceptionTable.toList, False)) (h6 : Snd x 6 X6) (h23 : Snd x 23 X23) : Snd x 72 (bX1_best_72 E Q X6 X23) := by
  unfold bX1_best_72
  refine s_istore G.b (by rw [G.nl]; decide) (fun _ _ => by rw [hC]) dX1_best_72 ?_
  refine s_aload_n rfl G.b dX1_best_74 ?_
  refine s_iload_n rfl G.b dX1_best_75 ?_
  refine s_aload_n rfl G.b dX1_best_76 ?_
  refine s_getf G.b G.ow G.kn (G.hts _ q192) (fun _ h => h) fa_5 dX1_best_77 ?_
  refine s_iconst (by decide) G.b dX1_best_80 ?_
  refine s_aald G.b G.kn dX1_best_81 ?_
  refine s_getfN G.b G.ow G.kn (va_Nw.use rfl (va_Nw.warmF G.warm (EN.nw q182 rfl))) (fun _ h => h) fa_4 dX1_best_82 ?_
  refine s_iload G.b dX1_best_85 ?_
  refine s_imul G.b dX1_best_87 ?_
  refine s_iadd G.b dX1_best_88 ?_
  refine s_iload G.b dX1_best_89 ?_
  refine s_iadd G.b dX1_best_91 ?_
  refine s_iald G.b G.kn dX1_best_92 ?_
  refine s_aload_n rfl G.b dX1_best_93 ?_
  refine s_getf G.b G.ow G.kn (G.hts _ q192) (fun _ h => h) fa_5 dX1_best_94 ?_
  refine s_iconst (by decide) G.b dX1_best_97 ?_
  refine s_aald G.b G.kn dX1_best_98 ?_
  refine s_iload G.b dX1_best_99 ?_
  refine s_callV G (mX3_end EN) q1352 q914 (sel_cons (r := (RX3, TX3, 3)) (by decide) rfl q915 (sel_nil)) q79 q916 nmk_99 (rm_of hF (Nat.le_of_ble_eq_true rfl) (Nat.le_of_ble_eq_true rfl)) dX1_best_101 ?_ (sx_out G (fun z hz => (hxt z hz).elim))
  refine s_iadd G.b dX1_best_104 ?_
  refine s_aload_n rfl G.b dX1_best_105 ?_
  refine s_getf G.b G.ow G.kn (G.hts _ q192) (fun _ h => h) fa_5 dX1_best_106 ?_
  refine s_iconst (by decide) G.b dX1_best_109 ?_
  refine s_aald G.b G.kn dX1_best_110 ?_
  refine s_iload G.b dX1_best_111 ?_
  refine s_callV G (mX3_end EN) q1352 q914 (sel_cons (r := (RX3, TX3, 3)) (by decide) rfl q915 (sel_nil)) q79 q916 nmk_99 (rm_of hF (Nat.le_of_ble_eq_true rfl) (Nat.le_of_ble_eq_true rfl)) dX1_best_113 ?_ (sx_out G (fun z hz => (hxt z hz).elim))
  refine s_iadd G.b dX1_best_116 ?_
  refine s_istore G.b (by rw [G.nl]; decide) (fun _ _ => by rw [hC]) dX1_best_117 ?_
  refine s_iload G.b dX1_best_119 ?_
  refine s_ifeq (tgt := 135) G.b dX1_best_121 (by decide) (tX1_best_135 EN G hF hC hxt h6 h23) ?_
  refine s_iload G.b dX1_best_124 ?_
  refine s_iload_n rfl G.b dX1_best_126 ?_
  refine s_icmpge (tgt := 135) G.b dX1_best_127 (by decide) (tX1_best_135 EN G hF hC hxt h6 h23) ?_
  refine s_iload G.b dX1_best_130 ?_
  exact s_goto (tgt := 136) G.b dX1_best_132 (by decide) (tX1_best_136 EN G hF hC hxt h6 h23)
set_option maxHeartbeats 4000000 in
theorem tX1_best_71 {x : CX} {E : Nat → Value} {Q : Rs → HS → Prop} {X6 X23 : Ct} (EN : EX x E) (G : Gd x cX1_best "ChantRules$Choir" yX1_best 8 (Option.some Jvm.ClassFile.FieldType.int) Q) (hF : x.1.2.2.2.frames = 3 ∧ x.1.2.2.2.locals = 85) (hC : x.2.2.2.2.2 = (fun _ => false)) (hxt : (∀ z ∈ x.2.2.1.2.1.exceptionTable.toList, False)) (h6 : Snd x 6 X6) (h23 : Snd x 23 X23) : Snd x 71 (bX1_best_71 E Q X6 X23) := by
  unfold bX1_best_71
  refine s_iconst (by decide) G.b dX1_best_71 ?_
  exact (tX1_best_72 EN G hF hC hxt h6 h23)
set_option maxHeartbeats 4000000 in
theorem tX1_best_23 {x : CX} {E : Nat → Value} {Q : Rs → HS → Prop} {X6 X23 : Ct} (EN : EX x E) (G : Gd x cX1_best "ChantRules$Choir" yX1_best 8 (Option.some Jvm.ClassFile.FieldType.int) Q) (hF : x.1.2.2.2.frames = 3 ∧ x.1.2.2.2.locals = 85) (hC : x.2.2.2.2.2 = (fun _ => false)) (hxt : (∀ z ∈ x.2.2.1.2.1.exceptionTable.toList, False)) (h6 : Snd x 6 X6) (h23 : Snd x 23 X23) : Snd x 23 (bX1_best_23 E Q X6 X23) := by
  unfold bX1_best_23
  refine s_iload G.b dX1_best_23 ?_
  refine s_aload_n rfl G.b dX1_best_25 ?_
  refine s_getf G.b G.ow G.kn (G.hts _ q192) (fun _ h => h) fa_5 dX1_best_26 ?_
  refine s_iconst (by decide) G.b dX1_best_29 ?_
  refine s_aald G.b G.kn dX1_best_30 ?_
  refine s_getfN G.b G.ow G.kn (va_Nw.use rfl (va_Nw.warmF G.warm (EN.nw q182 rfl))) (fun _ h => h) fa_4 dX1_best_31 ?_
  refine s_icmpge (tgt := 143) G.b dX1_best_34 (by decide) (tX1_best_143 EN G hF hC hxt h6 h23) ?_
  refine s_aload_n rfl G.b dX1_best_37 ?_
  refine s_getf G.b G.ow G.kn (G.hts _ q192) (fun _ h => h) fa_5 dX1_best_38 ?_
  refine s_iconst (by decide) G.b dX1_best_41 ?_
  refine s_aald G.b G.kn dX1_best_42 ?_
  refine s_iload G.b dX1_best_43 ?_
  refine s_callV G (mX3_end EN) q1352 q914 (sel_cons (r := (RX3, TX3, 3)) (by decide) rfl q915 (sel_nil)) q79 q916 nmk_99 (rm_of hF (Nat.le_of_ble_eq_true rfl) (Nat.le_of_ble_eq_true rfl)) dX1_best_45 ?_ (sx_out G (fun z hz => (hxt z hz).elim))
  refine s_iconst (by decide) G.b dX1_best_48 ?_
  refine s_icmpeq (tgt := 71) G.b dX1_best_49 (by decide) (tX1_best_71 EN G hF hC hxt h6 h23) ?_
  refine s_aload_n rfl G.b dX1_best_52 ?_
  refine s_getf G.b G.ow G.kn (G.hts _ q192) (fun _ h => h) fa_5 dX1_best_53 ?_
  refine s_iconst (by decide) G.b dX1_best_56 ?_
  refine s_aald G.b G.kn dX1_best_57 ?_
  refine s_iload G.b dX1_best_58 ?_
  refine s_callV G (mX3_end EN) q1352 q914 (sel_cons (r := (RX3, TX3, 3)) (by decide) rfl q915 (sel_nil)) q79 q916 nmk_99 (rm_of hF (Nat.le_of_ble_eq_true rfl) (Nat.le_of_ble_eq_true rfl)) dX1_best_60 ?_ (sx_out G (fun z hz => (hxt z hz).elim))
  refine s_iconst (by decide) G.b dX1_best_63 ?_
  refine s_icmpeq (tgt := 71) G.b dX1_best_64 (by decide) (tX1_best_71 EN G hF hC hxt h6 h23) ?_
  refine s_iconst (by decide) G.b dX1_best_67 ?_
  exact s_goto (tgt := 72) G.b dX1_best_68 (by decide) (tX1_best_72 EN G hF hC hxt h6 h23)
set_option maxHeartbeats 4000000 in
theorem tX1_best_6 {x : CX} {E : Nat → Value} {Q : Rs → HS → Prop} {X6 X23 : Ct} (EN : EX x E) (G : Gd x cX1_best "ChantRules$Choir" yX1_best 8 (Option.some Jvm.ClassFile.FieldType.int) Q) (hF : x.1.2.2.2.frames = 3 ∧ x.1.2.2.2.locals = 85) (hC : x.2.2.2.2.2 = (fun _ => false)) (hxt : (∀ z ∈ x.2.2.1.2.1.exceptionTable.toList, False)) (h6 : Snd x 6 X6) (h23 : Snd x 23 X23) : Snd x 6 (bX1_best_6 E Q X6 X23) := by
  unfold bX1_best_6
  refine s_iload G.b dX1_best_6 ?_
  refine s_aload_n rfl G.b dX1_best_8 ?_
  refine s_getf G.b G.ow G.kn (G.hts _ q192) (fun _ h => h) fa_5 dX1_best_9 ?_
  refine s_iconst (by decide) G.b dX1_best_12 ?_
  refine s_aald G.b G.kn dX1_best_13 ?_
  refine s_getfN G.b G.ow G.kn (va_Nw.use rfl (va_Nw.warmF G.warm (EN.nw q182 rfl))) (fun _ h => h) fa_4 dX1_best_14 ?_
  refine s_icmpge (tgt := 149) G.b dX1_best_17 (by decide) (tX1_best_149 EN G hF hC hxt h6 h23) ?_
  refine s_iconst (by decide) G.b dX1_best_20 ?_
  refine s_istore G.b (by rw [G.nl]; decide) (fun _ _ => by rw [hC]) dX1_best_21 ?_
  exact h23
set_option maxHeartbeats 4000000 in
theorem tX1_best_0 {x : CX} {E : Nat → Value} {Q : Rs → HS → Prop} {X6 X23 : Ct} (EN : EX x E) (G : Gd x cX1_best "ChantRules$Choir" yX1_best 8 (Option.some Jvm.ClassFile.FieldType.int) Q) (hF : x.1.2.2.2.frames = 3 ∧ x.1.2.2.2.locals = 85) (hC : x.2.2.2.2.2 = (fun _ => false)) (hxt : (∀ z ∈ x.2.2.1.2.1.exceptionTable.toList, False)) (h6 : Snd x 6 X6) (h23 : Snd x 23 X23) : Snd x 0 (bX1_best_0 E Q X6 X23) := by
  unfold bX1_best_0
  refine s_ldcI G.b G.ow G.hts q1311 dX1_best_0 ?_
  refine s_istore_n rfl G.b (by rw [G.nl]; decide) (fun _ _ => by rw [hC]) dX1_best_2 ?_
  refine s_iconst (by decide) G.b dX1_best_3 ?_
  refine s_istore G.b (by rw [G.nl]; decide) (fun _ _ => by rw [hC]) dX1_best_4 ?_
  exact h6
set_option maxHeartbeats 4000000 in
theorem mX1_best {l : Launch} {D : DE} {s0 : State} {E : Nat → Value} (EN : EV l D s0 E) : rMet l D s0 yX1_best (ws_ yX1_best cX1_best 8 (Option.some Jvm.ClassFile.FieldType.int)) 3 85 (wX1_best E) := by
  refine body_met (fun _ => false) EN.kn (fun w h => h) (by decide +kernel) rfl (fun av h Q hw => ?_) ?_
  · unfold wX1_best at hw
    split at hw
    · exact Nat.le_of_ble_eq_true rfl
    · exact hw.elim
  · intro p e s m below meth c av h Q hxt G hw
    unfold wX1_best at hw
    split at hw
    · exact tX1_best_0 EN G ⟨rfl, rfl⟩ rfl hxt (fun _ _ _ h => h) (fun _ _ _ h => h) _ _ _ (hw (AW _ 6) (AW _ 23) (tX1_best_6 EN G ⟨rfl, rfl⟩ rfl hxt (fun _ _ _ h => h) (fun _ _ _ h => h)) (tX1_best_23 EN G ⟨rfl, rfl⟩ rfl hxt (fun _ _ _ h => h) (fun _ _ _ h => h)))
    · exact hw.elim
/-! ChantRules$Choir.isLess([IIII)Z (X1_isLess) -/
def bX1_isLess_38 (E : Nat → Value) (Q : Rs → HS → Prop) : Ct :=
  o_ast [(100, .int)] <|
  o_iload 5 <|
  o_ireturn .boolean Q
def bX1_isLess_35 (E : Nat → Value) (Q : Rs → HS → Prop) : Ct :=
  o_aload 1 <|
  o_iload 3 <|
  o_ald [100] <|
  (bX1_isLess_38 E Q)
def bX1_isLess_17 (E : Nat → Value) (Q : Rs → HS → Prop) : Ct :=
  o_istore 5 <|
  o_aload 1 <|
  o_iload 3 <|
  o_iload 5 <|
  o_ifeq (bX1_isLess_35 E Q) <|
  o_aload 1 <|
  o_iload 2 <|
  o_ald [100] <|
  o_iload 4 <|
  o_iadd <|
  (bX1_isLess_38 E Q)
def bX1_isLess_16 (E : Nat → Value) (Q : Rs → HS → Prop) : Ct :=
  o_push (.int 0) <|
  (bX1_isLess_17 E Q)
def bX1_isLess_0 (E : Nat → Value) (Q : Rs → HS → Prop) : Ct :=
  o_aload 1 <|
  o_iload 2 <|
  o_ald [100] <|
  o_iload 4 <|
  o_iadd <|
  o_aload 1 <|
  o_iload 3 <|
  o_ald [100] <|
  o_icmpge (bX1_isLess_16 E Q) <|
  o_push (.int 1) <|
  (bX1_isLess_17 E Q)
def wX1_isLess (E : Nat → Value) : Wp := fun av h Q => match av with
  | [a0, a1, a2, a3, a4] => bX1_isLess_0 E Q [a0, a1, a2, a3, a4, jk] [] h
  | _ => False
set_option maxHeartbeats 4000000 in
theorem tX1_isLess_38 {x : CX} {E : Nat → Value} {Q : Rs → HS → Prop} (EN : EX x E) (G : Gd x cX1_isLess "ChantRules$Choir" yX1_isLess 6 (Option.some Jvm.ClassFile.FieldType.boolean) Q) (hF : x.1.2.2.2.frames = 2 ∧ x.1.2.2.2.locals = 64) (hC : x.2.2.2.2.2 = (fun _ => false)) (hxt : (∀ z ∈ x.2.2.1.2.1.exceptionTable.toList, False)) : Snd x 38 (bX1_isLess_38 E Q) := by
  unfold bX1_isLess_38
  refine s_iast G.b G.kn dX1_isLess_38 ?_
  refine s_iload G.b dX1_isLess_39 ?_
  exact s_ireturn G dX1_isLess_41
set_option maxHeartbeats 4000000 in
theorem tX1_isLess_35 {x : CX} {E : Nat → Value} {Q : Rs → HS → Prop} (EN : EX x E) (G : Gd x cX1_isLess "ChantRules$Choir" yX1_isLess 6 (Option.some Jvm.ClassFile.FieldType.boolean) Q) (hF : x.1.2.2.2.frames = 2 ∧ x.1.2.2.2.locals = 64) (hC : x.2.2.2.2.2 = (fun _ => false)) (hxt : (∀ z ∈ x.2.2.1.2.1.exceptionTable.toList, False)) : Snd x 35 (bX1_isLess_35 E Q) := by
  unfold bX1_isLess_35
  refine s_aload_n rfl G.b dX1_isLess_35 ?_
  refine s_iload_n rfl G.b dX1_isLess_36 ?_
  refine s_iald G.b G.kn dX1_isLess_37 ?_
  exact (tX1_isLess_38 EN G hF hC hxt)
set_option maxHeartbeats 4000000 in
theorem tX1_isLess_17 {x : CX} {E : Nat → Value} {Q : Rs → HS → Prop} (EN : EX x E) (G : Gd x cX1_isLess "ChantRules$Choir" yX1_isLess 6 (Option.some Jvm.ClassFile.FieldType.boolean) Q) (hF : x.1.2.2.2.frames = 2 ∧ x.1.2.2.2.locals = 64) (hC : x.2.2.2.2.2 = (fun _ => false)) (hxt : (∀ z ∈ x.2.2.1.2.1.exceptionTable.toList, False)) : Snd x 17 (bX1_isLess_17 E Q) := by
  unfold bX1_isLess_17
  refine s_istore G.b (by rw [G.nl]; decide) (fun _ _ => by rw [hC]) dX1_isLess_17 ?_
  refine s_aload_n rfl G.b dX1_isLess_19 ?_
  refine s_iload_n rfl G.b dX1_isLess_20 ?_
  refine s_iload G.b dX1_isLess_21 ?_
  refine s_ifeq (tgt := 35) G.b dX1_isLess_23 (by decide) (tX1_isLess_35 EN G hF hC hxt) ?_
  refine s_aload_n rfl G.b dX1_isLess_26 ?_
  refine s_iload_n rfl G.b dX1_isLess_27 ?_
  refine s_iald G.b G.kn dX1_isLess_28 ?_
  refine s_iload G.b dX1_isLess_29 ?_
  refine s_iadd G.b dX1_isLess_31 ?_
  exact s_goto (tgt := 38) G.b dX1_isLess_32 (by decide) (tX1_isLess_38 EN G hF hC hxt)
set_option maxHeartbeats 4000000 in
theorem tX1_isLess_16 {x : CX} {E : Nat → Value} {Q : Rs → HS → Prop} (EN : EX x E) (G : Gd x cX1_isLess "ChantRules$Choir" yX1_isLess 6 (Option.some Jvm.ClassFile.FieldType.boolean) Q) (hF : x.1.2.2.2.frames = 2 ∧ x.1.2.2.2.locals = 64) (hC : x.2.2.2.2.2 = (fun _ => false)) (hxt : (∀ z ∈ x.2.2.1.2.1.exceptionTable.toList, False)) : Snd x 16 (bX1_isLess_16 E Q) := by
  unfold bX1_isLess_16
  refine s_iconst (by decide) G.b dX1_isLess_16 ?_
  exact (tX1_isLess_17 EN G hF hC hxt)
set_option maxHeartbeats 4000000 in
theorem tX1_isLess_0 {x : CX} {E : Nat → Value} {Q : Rs → HS → Prop} (EN : EX x E) (G : Gd x cX1_isLess "ChantRules$Choir" yX1_isLess 6 (Option.some Jvm.ClassFile.FieldType.boolean) Q) (hF : x.1.2.2.2.frames = 2 ∧ x.1.2.2.2.locals = 64) (hC : x.2.2.2.2.2 = (fun _ => false)) (hxt : (∀ z ∈ x.2.2.1.2.1.exceptionTable.toList, False)) : Snd x 0 (bX1_isLess_0 E Q) := by
  unfold bX1_isLess_0
  refine s_aload_n rfl G.b dX1_isLess_0 ?_
  refine s_iload_n rfl G.b dX1_isLess_1 ?_
  refine s_iald G.b G.kn dX1_isLess_2 ?_
  refine s_iload G.b dX1_isLess_3 ?_
  refine s_iadd G.b dX1_isLess_5 ?_
  refine s_aload_n rfl G.b dX1_isLess_6 ?_
  refine s_iload_n rfl G.b dX1_isLess_7 ?_
  refine s_iald G.b G.kn dX1_isLess_8 ?_
  refine s_icmpge (tgt := 16) G.b dX1_isLess_9 (by decide) (tX1_isLess_16 EN G hF hC hxt) ?_
  refine s_iconst (by decide) G.b dX1_isLess_12 ?_
  exact s_goto (tgt := 17) G.b dX1_isLess_13 (by decide) (tX1_isLess_17 EN G hF hC hxt)
set_option maxHeartbeats 4000000 in
theorem mX1_isLess {l : Launch} {D : DE} {s0 : State} {E : Nat → Value} (EN : EV l D s0 E) : rMet l D s0 yX1_isLess (ws_ yX1_isLess cX1_isLess 6 (Option.some Jvm.ClassFile.FieldType.boolean)) 2 64 (wX1_isLess E) := by
  refine body_met (fun _ => false) EN.kn (fun w h => h) (by decide +kernel) rfl (fun av h Q hw => ?_) ?_
  · unfold wX1_isLess at hw
    split at hw
    · exact Nat.le_of_ble_eq_true rfl
    · exact hw.elim
  · intro p e s m below meth c av h Q hxt G hw
    unfold wX1_isLess at hw
    split at hw
    · exact tX1_isLess_0 EN G ⟨rfl, rfl⟩ rfl hxt _ _ _ hw
    · exact hw.elim
/-! ChantRules$Choir.goes([ILChantRules$Arc;II)Z (X1_goes) -/
theorem nmk_122 : nm_ok yX1_isLess 4 := ⟨by decide +kernel, by decide +kernel, by decide +kernel⟩
def bX1_goes_213 (E : Nat → Value) (Q : Rs → HS → Prop) (X21 X99 : Ct) : Ct :=
  o_iload 7 <|
  o_ireturn .boolean Q
def bX1_goes_210 (E : Nat → Value) (Q : Rs → HS → Prop) (X21 X99 : Ct) : Ct :=
  X99
def bX1_goes_203 (E : Nat → Value) (Q : Rs → HS → Prop) (X21 X99 : Ct) : Ct :=
  o_iadd <|
  o_callV [1] 5 (wX1_isLess E) (x_out Q) <|
  o_ior <|
  o_istore 7 <|
  (bX1_goes_210 E Q X21 X99)
def bX1_goes_196 (E : Nat → Value) (Q : Rs → HS → Prop) (X21 X99 : Ct) : Ct :=
  o_aload 9 <|
  o_vsel 1 [10] (o_callV [10] 1 (wX7_weight E) (x_out Q) (bX1_goes_203 E Q X21 X99)) (o_callV [11] 1 (wX8_weight E) (x_out Q) (bX1_goes_203 E Q X21 X99))
def bX1_goes_189 (E : Nat → Value) (Q : Rs → HS → Prop) (X21 X99 : Ct) : Ct :=
  o_iadd <|
  o_aload 2 <|
  o_vsel 1 [10] (o_callV [10] 1 (wX7_weight E) (x_out Q) (bX1_goes_196 E Q X21 X99)) (o_callV [11] 1 (wX8_weight E) (x_out Q) (bX1_goes_196 E Q X21 X99))
def bX1_goes_180 (E : Nat → Value) (Q : Rs → HS → Prop) (X21 X99 : Ct) : Ct :=
  o_imul <|
  o_iadd <|
  o_aload 9 <|
  o_vsel 1 [10] (o_callV [10] 1 (wX7_to E) (x_out Q) (bX1_goes_189 E Q X21 X99)) (o_callV [11] 1 (wX8_to E) (x_out Q) (bX1_goes_189 E Q X21 X99))
def bX1_goes_169 (E : Nat → Value) (Q : Rs → HS → Prop) (X21 X99 : Ct) : Ct :=
  o_iadd <|
  o_iload 4 <|
  o_iload 6 <|
  o_aload 2 <|
  o_vsel 1 [10] (o_callV [10] 1 (wX7_to E) (x_out Q) (bX1_goes_180 E Q X21 X99)) (o_callV [11] 1 (wX8_to E) (x_out Q) (bX1_goes_180 E Q X21 X99))
def bX1_goes_160 (E : Nat → Value) (Q : Rs → HS → Prop) (X21 X99 : Ct) : Ct :=
  o_imul <|
  o_iadd <|
  o_aload 9 <|
  o_vsel 1 [10] (o_callV [10] 1 (wX7_from E) (x_out Q) (bX1_goes_169 E Q X21 X99)) (o_callV [11] 1 (wX8_from E) (x_out Q) (bX1_goes_169 E Q X21 X99))
def bX1_goes_144 (E : Nat → Value) (Q : Rs → HS → Prop) (X21 X99 : Ct) : Ct :=
  o_icmpne (bX1_goes_210 E Q X21 X99) <|
  o_iload 7 <|
  o_aload 0 <|
  o_aload 1 <|
  o_iload 3 <|
  o_iload 6 <|
  o_aload 2 <|
  o_vsel 1 [10] (o_callV [10] 1 (wX7_from E) (x_out Q) (bX1_goes_160 E Q X21 X99)) (o_callV [11] 1 (wX8_from E) (x_out Q) (bX1_goes_160 E Q X21 X99))
def bX1_goes_138 (E : Nat → Value) (Q : Rs → HS → Prop) (X21 X99 : Ct) : Ct :=
  o_aload 2 <|
  o_vsel 1 [10] (o_callV [10] 1 (wX7_sings E) (x_out Q) (bX1_goes_144 E Q X21 X99)) (o_callV [11] 1 (wX8_sings E) (x_out Q) (bX1_goes_144 E Q X21 X99))
def bX1_goes_127 (E : Nat → Value) (Q : Rs → HS → Prop) (X21 X99 : Ct) : Ct :=
  o_push (.int 4) <|
  o_icmpeq (bX1_goes_210 E Q X21 X99) <|
  o_aload 9 <|
  o_vsel 1 [10] (o_callV [10] 1 (wX7_hears E) (x_out Q) (bX1_goes_138 E Q X21 X99)) (o_callV [11] 1 (wX8_hears E) (x_out Q) (bX1_goes_138 E Q X21 X99))
def bX1_goes_99 (E : Nat → Value) (Q : Rs → HS → Prop) (X21 X99 : Ct) : Ct :=
  o_aload 8 <|
  o_callV [20] 1 (wJ9_hasNext E) (x_out Q) <|
  o_ifeq (bX1_goes_213 E Q X21 X99) <|
  o_aload 8 <|
  o_callV [20] 1 (wJ9_next E) (x_out Q) <|
  o_cast [10, 11] <|
  o_astore 9 <|
  o_aload 2 <|
  o_vsel 1 [10] (o_callV [10] 1 (wX7_sings E) (x_out Q) (bX1_goes_127 E Q X21 X99)) (o_callV [11] 1 (wX8_sings E) (x_out Q) (bX1_goes_127 E Q X21 X99))
def bX1_goes_89 (E : Nat → Value) (Q : Rs → HS → Prop) (X21 X99 : Ct) : Ct :=
  o_aload 5 <|
  o_getf [2] 0 <|
  o_callV [15] 1 (wJ2_iterator E) (x_out Q) <|
  o_astore 8 <|
  X99
def bX1_goes_77 (E : Nat → Value) (Q : Rs → HS → Prop) (X21 X99 : Ct) : Ct :=
  o_callV [1] 5 (wX1_isLess E) (x_out Q) <|
  o_ior <|
  o_istore 7 <|
  o_iinc 8 1 <|
  X21
def bX1_goes_66 (E : Nat → Value) (Q : Rs → HS → Prop) (X21 X99 : Ct) : Ct :=
  o_imul <|
  o_iadd <|
  o_iload 8 <|
  o_iadd <|
  o_aload 2 <|
  o_vsel 1 [10] (o_callV [10] 1 (wX7_weight E) (x_out Q) (bX1_goes_77 E Q X21 X99)) (o_callV [11] 1 (wX8_weight E) (x_out Q) (bX1_goes_77 E Q X21 X99))
def bX1_goes_51 (E : Nat → Value) (Q : Rs → HS → Prop) (X21 X99 : Ct) : Ct :=
  o_imul <|
  o_iadd <|
  o_iload 8 <|
  o_iadd <|
  o_iload 4 <|
  o_iload 6 <|
  o_aload 2 <|
  o_vsel 1 [10] (o_callV [10] 1 (wX7_to E) (x_out Q) (bX1_goes_66 E Q X21 X99)) (o_callV [11] 1 (wX8_to E) (x_out Q) (bX1_goes_66 E Q X21 X99))
def bX1_goes_34 (E : Nat → Value) (Q : Rs → HS → Prop) (X21 X99 : Ct) : Ct :=
  o_push (.int 4) <|
  o_icmpne (bX1_goes_89 E Q X21 X99) <|
  o_iload 7 <|
  o_aload 0 <|
  o_aload 1 <|
  o_iload 3 <|
  o_iload 6 <|
  o_aload 2 <|
  o_vsel 1 [10] (o_callV [10] 1 (wX7_from E) (x_out Q) (bX1_goes_51 E Q X21 X99)) (o_callV [11] 1 (wX8_from E) (x_out Q) (bX1_goes_51 E Q X21 X99))
def bX1_goes_21 (E : Nat → Value) (Q : Rs → HS → Prop) (X21 X99 : Ct) : Ct :=
  o_iload 8 <|
  o_iload 6 <|
  o_icmpge (bX1_goes_89 E Q X21 X99) <|
  o_aload 2 <|
  o_vsel 1 [10] (o_callV [10] 1 (wX7_sings E) (x_out Q) (bX1_goes_34 E Q X21 X99)) (o_callV [11] 1 (wX8_sings E) (x_out Q) (bX1_goes_34 E Q X21 X99))
def bX1_goes_0 (E : Nat → Value) (Q : Rs → HS → Prop) (X21 X99 : Ct) : Ct :=
  o_aload 0 <|
  o_getf [1] 0 <|
  o_push (.int 1) <|
  o_ald [103, 104, 105, 106, 107] <|
  o_astore 5 <|
  o_aload 5 <|
  o_getf [2] 2 <|
  o_istore 6 <|
  o_push (.int 0) <|
  o_istore 7 <|
  o_push (.int 0) <|
  o_istore 8 <|
  X21
def wX1_goes (E : Nat → Value) : Wp := fun av h Q => match av with
  | [a0, a1, a2, a3, a4] => ∀ X21 X99 : Ct, (∀ ls st h, bX1_goes_21 E Q X21 X99 ls st h → X21 ls st h) → (∀ ls st h, bX1_goes_99 E Q X21 X99 ls st h → X99 ls st h) → bX1_goes_0 E Q X21 X99 [a0, a1, a2, a3, a4, jk, jk, jk, jk, jk] [] h
  | _ => False
set_option maxHeartbeats 4000000 in
theorem tX1_goes_213 {x : CX} {E : Nat → Value} {Q : Rs → HS → Prop} {X21 X99 : Ct} (EN : EX x E) (G : Gd x cX1_goes "ChantRules$Choir" yX1_goes 10 (Option.some Jvm.ClassFile.FieldType.boolean) Q) (hF : x.1.2.2.2.frames = 4 ∧ x.1.2.2.2.locals = 106) (hC : x.2.2.2.2.2 = (fun _ => false)) (hxt : (∀ z ∈ x.2.2.1.2.1.exceptionTable.toList, False)) (h21 : Snd x 21 X21) (h99 : Snd x 99 X99) : Snd x 213 (bX1_goes_213 E Q X21 X99) := by
  unfold bX1_goes_213
  refine s_iload G.b dX1_goes_213 ?_
  exact s_ireturn G dX1_goes_215
set_option maxHeartbeats 4000000 in
theorem tX1_goes_210 {x : CX} {E : Nat → Value} {Q : Rs → HS → Prop} {X21 X99 : Ct} (EN : EX x E) (G : Gd x cX1_goes "ChantRules$Choir" yX1_goes 10 (Option.some Jvm.ClassFile.FieldType.boolean) Q) (hF : x.1.2.2.2.frames = 4 ∧ x.1.2.2.2.locals = 106) (hC : x.2.2.2.2.2 = (fun _ => false)) (hxt : (∀ z ∈ x.2.2.1.2.1.exceptionTable.toList, False)) (h21 : Snd x 21 X21) (h99 : Snd x 99 X99) : Snd x 210 (bX1_goes_210 E Q X21 X99) := by
  unfold bX1_goes_210
  exact s_goto (tgt := 99) G.b dX1_goes_210 (by decide) h99
set_option maxHeartbeats 4000000 in
theorem tX1_goes_203 {x : CX} {E : Nat → Value} {Q : Rs → HS → Prop} {X21 X99 : Ct} (EN : EX x E) (G : Gd x cX1_goes "ChantRules$Choir" yX1_goes 10 (Option.some Jvm.ClassFile.FieldType.boolean) Q) (hF : x.1.2.2.2.frames = 4 ∧ x.1.2.2.2.locals = 106) (hC : x.2.2.2.2.2 = (fun _ => false)) (hxt : (∀ z ∈ x.2.2.1.2.1.exceptionTable.toList, False)) (h21 : Snd x 21 X21) (h99 : Snd x 99 X99) : Snd x 203 (bX1_goes_203 E Q X21 X99) := by
  unfold bX1_goes_203
  refine s_iadd G.b dX1_goes_203 ?_
  refine s_callV G (mX1_isLess EN) q1339 q1341 (sel_cons (r := (RX1, TX1, 4)) (by decide) rfl qs18 (sel_nil)) q77 q1342 nmk_122 (rm_of hF (Nat.le_of_ble_eq_true rfl) (Nat.le_of_ble_eq_true rfl)) dX1_goes_204 ?_ (sx_out G (fun z hz => (hxt z hz).elim))
  refine s_ior G.b dX1_goes_207 ?_
  refine s_istore G.b (by rw [G.nl]; decide) (fun _ _ => by rw [hC]) dX1_goes_208 ?_
  exact (tX1_goes_210 EN G hF hC hxt h21 h99)
set_option maxHeartbeats 4000000 in
theorem tX1_goes_196 {x : CX} {E : Nat → Value} {Q : Rs → HS → Prop} {X21 X99 : Ct} (EN : EX x E) (G : Gd x cX1_goes "ChantRules$Choir" yX1_goes 10 (Option.some Jvm.ClassFile.FieldType.boolean) Q) (hF : x.1.2.2.2.frames = 4 ∧ x.1.2.2.2.locals = 106) (hC : x.2.2.2.2.2 = (fun _ => false)) (hxt : (∀ z ∈ x.2.2.1.2.1.exceptionTable.toList, False)) (h21 : Snd x 21 X21) (h99 : Snd x 99 X99) : Snd x 196 (bX1_goes_196 E Q X21 X99) := by
  unfold bX1_goes_196
  refine s_aload G.b dX1_goes_196 ?_
  exact (s_vsel (s_callF (r0 := (RX7, TX7, 4)) (w := ⟨"ChantRules$Arc", "weight", "()I"⟩) (by decide) rfl G (mX7_weight EN) q1338 (va_Fw.moved (by decide +kernel) G.warm.alike ⟨(EN.nw q770 rfl), (EN.nw q769 rfl), (EN.nw q774 rfl), (EN.nw q772 rfl), (EN.nw q287 rfl)⟩) q771 q773 q99 q775 nmk_17 (rm_of hF (Nat.le_of_ble_eq_true rfl) (Nat.le_of_ble_eq_true rfl)) dX1_goes_198 (tX1_goes_203 EN G hF hC hxt h21 h99) (sx_out G (fun z hz => (hxt z hz).elim)) ) (s_callF (r0 := (RX8, TX8, 5)) (w := ⟨"ChantRules$Arc", "weight", "()I"⟩) (by decide) rfl G (mX8_weight EN) q1338 (va_Fw.moved (by decide +kernel) G.warm.alike ⟨(EN.nw q770 rfl), (EN.nw q769 rfl), (EN.nw q779 rfl), (EN.nw q777 rfl), (EN.nw q293 rfl)⟩) q776 q778 q100 q780 nmk_17 (rm_of hF (Nat.le_of_ble_eq_true rfl) (Nat.le_of_ble_eq_true rfl)) dX1_goes_198 (tX1_goes_203 EN G hF hC hxt h21 h99) (sx_out G (fun z hz => (hxt z hz).elim)) ))
set_option maxHeartbeats 4000000 in
theorem tX1_goes_189 {x : CX} {E : Nat → Value} {Q : Rs → HS → Prop} {X21 X99 : Ct} (EN : EX x E) (G : Gd x cX1_goes "ChantRules$Choir" yX1_goes 10 (Option.some Jvm.ClassFile.FieldType.boolean) Q) (hF : x.1.2.2.2.frames = 4 ∧ x.1.2.2.2.locals = 106) (hC : x.2.2.2.2.2 = (fun _ => false)) (hxt : (∀ z ∈ x.2.2.1.2.1.exceptionTable.toList, False)) (h21 : Snd x 21 X21) (h99 : Snd x 99 X99) : Snd x 189 (bX1_goes_189 E Q X21 X99) := by
  unfold bX1_goes_189
  refine s_iadd G.b dX1_goes_189 ?_
  refine s_aload_n rfl G.b dX1_goes_190 ?_
  exact (s_vsel (s_callF (r0 := (RX7, TX7, 4)) (w := ⟨"ChantRules$Arc", "weight", "()I"⟩) (by decide) rfl G (mX7_weight EN) q1338 (va_Fw.moved (by decide +kernel) G.warm.alike ⟨(EN.nw q770 rfl), (EN.nw q769 rfl), (EN.nw q774 rfl), (EN.nw q772 rfl), (EN.nw q287 rfl)⟩) q771 q773 q99 q775 nmk_17 (rm_of hF (Nat.le_of_ble_eq_true rfl) (Nat.le_of_ble_eq_true rfl)) dX1_goes_191 (tX1_goes_196 EN G hF hC hxt h21 h99) (sx_out G (fun z hz => (hxt z hz).elim)) ) (s_callF (r0 := (RX8, TX8, 5)) (w := ⟨"ChantRules$Arc", "weight", "()I"⟩) (by decide) rfl G (mX8_weight EN) q1338 (va_Fw.moved (by decide +kernel) G.warm.alike ⟨(EN.nw q770 rfl), (EN.nw q769 rfl), (EN.nw q779 rfl), (EN.nw q777 rfl), (EN.nw q293 rfl)⟩) q776 q778 q100 q780 nmk_17 (rm_of hF (Nat.le_of_ble_eq_true rfl) (Nat.le_of_ble_eq_true rfl)) dX1_goes_191 (tX1_goes_196 EN G hF hC hxt h21 h99) (sx_out G (fun z hz => (hxt z hz).elim)) ))
set_option maxHeartbeats 4000000 in
theorem tX1_goes_180 {x : CX} {E : Nat → Value} {Q : Rs → HS → Prop} {X21 X99 : Ct} (EN : EX x E) (G : Gd x cX1_goes "ChantRules$Choir" yX1_goes 10 (Option.some Jvm.ClassFile.FieldType.boolean) Q) (hF : x.1.2.2.2.frames = 4 ∧ x.1.2.2.2.locals = 106) (hC : x.2.2.2.2.2 = (fun _ => false)) (hxt : (∀ z ∈ x.2.2.1.2.1.exceptionTable.toList, False)) (h21 : Snd x 21 X21) (h99 : Snd x 99 X99) : Snd x 180 (bX1_goes_180 E Q X21 X99) := by
  unfold bX1_goes_180
  refine s_imul G.b dX1_goes_180 ?_
  refine s_iadd G.b dX1_goes_181 ?_
  refine s_aload G.b dX1_goes_182 ?_
  exact (s_vsel (s_callF (r0 := (RX7, TX7, 4)) (w := ⟨"ChantRules$Arc", "to", "()I"⟩) (by decide) rfl G (mX7_to EN) q1336 (va_Fw.moved (by decide +kernel) G.warm.alike ⟨(EN.nw q726 rfl), (EN.nw q725 rfl), (EN.nw q730 rfl), (EN.nw q728 rfl), (EN.nw q287 rfl)⟩) q727 q729 q99 q731 nmk_69 (rm_of hF (Nat.le_of_ble_eq_true rfl) (Nat.le_of_ble_eq_true rfl)) dX1_goes_184 (tX1_goes_189 EN G hF hC hxt h21 h99) (sx_out G (fun z hz => (hxt z hz).elim)) ) (s_callF (r0 := (RX8, TX8, 5)) (w := ⟨"ChantRules$Arc", "to", "()I"⟩) (by decide) rfl G (mX8_to EN) q1336 (va_Fw.moved (by decide +kernel) G.warm.alike ⟨(EN.nw q726 rfl), (EN.nw q725 rfl), (EN.nw q735 rfl), (EN.nw q733 rfl), (EN.nw q293 rfl)⟩) q732 q734 q100 q736 nmk_69 (rm_of hF (Nat.le_of_ble_eq_true rfl) (Nat.le_of_ble_eq_true rfl)) dX1_goes_184 (tX1_goes_189 EN G hF hC hxt h21 h99) (sx_out G (fun z hz => (hxt z hz).elim)) ))
set_option maxHeartbeats 4000000 in
theorem tX1_goes_169 {x : CX} {E : Nat → Value} {Q : Rs → HS → Prop} {X21 X99 : Ct} (EN : EX x E) (G : Gd x cX1_goes "ChantRules$Choir" yX1_goes 10 (Option.some Jvm.ClassFile.FieldType.boolean) Q) (hF : x.1.2.2.2.frames = 4 ∧ x.1.2.2.2.locals = 106) (hC : x.2.2.2.2.2 = (fun _ => false)) (hxt : (∀ z ∈ x.2.2.1.2.1.exceptionTable.toList, False)) (h21 : Snd x 21 X21) (h99 : Snd x 99 X99) : Snd x 169 (bX1_goes_169 E Q X21 X99) := by
  unfold bX1_goes_169
  refine s_iadd G.b dX1_goes_169 ?_
  refine s_iload G.b dX1_goes_170 ?_
  refine s_iload G.b dX1_goes_172 ?_
  refine s_aload_n rfl G.b dX1_goes_174 ?_
  exact (s_vsel (s_callF (r0 := (RX7, TX7, 4)) (w := ⟨"ChantRules$Arc", "to", "()I"⟩) (by decide) rfl G (mX7_to EN) q1336 (va_Fw.moved (by decide +kernel) G.warm.alike ⟨(EN.nw q726 rfl), (EN.nw q725 rfl), (EN.nw q730 rfl), (EN.nw q728 rfl), (EN.nw q287 rfl)⟩) q727 q729 q99 q731 nmk_69 (rm_of hF (Nat.le_of_ble_eq_true rfl) (Nat.le_of_ble_eq_true rfl)) dX1_goes_175 (tX1_goes_180 EN G hF hC hxt h21 h99) (sx_out G (fun z hz => (hxt z hz).elim)) ) (s_callF (r0 := (RX8, TX8, 5)) (w := ⟨"ChantRules$Arc", "to", "()I"⟩) (by decide) rfl G (mX8_to EN) q1336 (va_Fw.moved (by decide +kernel) G.warm.alike ⟨(EN.nw q726 rfl), (EN.nw q725 rfl), (EN.nw q735 rfl), (EN.nw q733 rfl), (EN.nw q293 rfl)⟩) q732 q734 q100 q736 nmk_69 (rm_of hF (Nat.le_of_ble_eq_true rfl) (Nat.le_of_ble_eq_true rfl)) dX1_goes_175 (tX1_goes_180 EN G hF hC hxt h21 h99) (sx_out G (fun z hz => (hxt z hz).elim)) ))
set_option maxHeartbeats 4000000 in
theorem tX1_goes_160 {x : CX} {E : Nat → Value} {Q : Rs → HS → Prop} {X21 X99 : Ct} (EN : EX x E) (G : Gd x cX1_goes "ChantRules$Choir" yX1_goes 10 (Option.some Jvm.ClassFile.FieldType.boolean) Q) (hF : x.1.2.2.2.frames = 4 ∧ x.1.2.2.2.locals = 106) (hC : x.2.2.2.2.2 = (fun _ => false)) (hxt : (∀ z ∈ x.2.2.1.2.1.exceptionTable.toList, False)) (h21 : Snd x 21 X21) (h99 : Snd x 99 X99) : Snd x 160 (bX1_goes_160 E Q X21 X99) := by
  unfold bX1_goes_160
  refine s_imul G.b dX1_goes_160 ?_
  refine s_iadd G.b dX1_goes_161 ?_
  refine s_aload G.b dX1_goes_162 ?_
  exact (s_vsel (s_callF (r0 := (RX7, TX7, 4)) (w := ⟨"ChantRules$Arc", "from", "()I"⟩) (by decide) rfl G (mX7_from EN) q1334 (va_Fw.moved (by decide +kernel) G.warm.alike ⟨(EN.nw q712 rfl), (EN.nw q711 rfl), (EN.nw q716 rfl), (EN.nw q714 rfl), (EN.nw q287 rfl)⟩) q713 q715 q99 q717 nmk_70 (rm_of hF (Nat.le_of_ble_eq_true rfl) (Nat.le_of_ble_eq_true rfl)) dX1_goes_164 (tX1_goes_169 EN G hF hC hxt h21 h99) (sx_out G (fun z hz => (hxt z hz).elim)) ) (s_callF (r0 := (RX8, TX8, 5)) (w := ⟨"ChantRules$Arc", "from", "()I"⟩) (by decide) rfl G (mX8_from EN) q1334 (va_Fw.moved (by decide +kernel) G.warm.alike ⟨(EN.nw q712 rfl), (EN.nw q711 rfl), (EN.nw q721 rfl), (EN.nw q719 rfl), (EN.nw q293 rfl)⟩) q718 q720 q100 q722 nmk_70 (rm_of hF (Nat.le_of_ble_eq_true rfl) (Nat.le_of_ble_eq_true rfl)) dX1_goes_164 (tX1_goes_169 EN G hF hC hxt h21 h99) (sx_out G (fun z hz => (hxt z hz).elim)) ))
set_option maxHeartbeats 4000000 in
theorem tX1_goes_144 {x : CX} {E : Nat → Value} {Q : Rs → HS → Prop} {X21 X99 : Ct} (EN : EX x E) (G : Gd x cX1_goes "ChantRules$Choir" yX1_goes 10 (Option.some Jvm.ClassFile.FieldType.boolean) Q) (hF : x.1.2.2.2.frames = 4 ∧ x.1.2.2.2.locals = 106) (hC : x.2.2.2.2.2 = (fun _ => false)) (hxt : (∀ z ∈ x.2.2.1.2.1.exceptionTable.toList, False)) (h21 : Snd x 21 X21) (h99 : Snd x 99 X99) : Snd x 144 (bX1_goes_144 E Q X21 X99) := by
  unfold bX1_goes_144
  refine s_icmpne (tgt := 210) G.b dX1_goes_144 (by decide) (tX1_goes_210 EN G hF hC hxt h21 h99) ?_
  refine s_iload G.b dX1_goes_147 ?_
  refine s_aload_n rfl G.b dX1_goes_149 ?_
  refine s_aload_n rfl G.b dX1_goes_150 ?_
  refine s_iload_n rfl G.b dX1_goes_151 ?_
  refine s_iload G.b dX1_goes_152 ?_
  refine s_aload_n rfl G.b dX1_goes_154 ?_
  exact (s_vsel (s_callF (r0 := (RX7, TX7, 4)) (w := ⟨"ChantRules$Arc", "from", "()I"⟩) (by decide) rfl G (mX7_from EN) q1334 (va_Fw.moved (by decide +kernel) G.warm.alike ⟨(EN.nw q712 rfl), (EN.nw q711 rfl), (EN.nw q716 rfl), (EN.nw q714 rfl), (EN.nw q287 rfl)⟩) q713 q715 q99 q717 nmk_70 (rm_of hF (Nat.le_of_ble_eq_true rfl) (Nat.le_of_ble_eq_true rfl)) dX1_goes_155 (tX1_goes_160 EN G hF hC hxt h21 h99) (sx_out G (fun z hz => (hxt z hz).elim)) ) (s_callF (r0 := (RX8, TX8, 5)) (w := ⟨"ChantRules$Arc", "from", "()I"⟩) (by decide) rfl G (mX8_from EN) q1334 (va_Fw.moved (by decide +kernel) G.warm.alike ⟨(EN.nw q712 rfl), (EN.nw q711 rfl), (EN.nw q721 rfl), (EN.nw q719 rfl), (EN.nw q293 rfl)⟩) q718 q720 q100 q722 nmk_70 (rm_of hF (Nat.le_of_ble_eq_true rfl) (Nat.le_of_ble_eq_true rfl)) dX1_goes_155 (tX1_goes_160 EN G hF hC hxt h21 h99) (sx_out G (fun z hz => (hxt z hz).elim)) ))
set_option maxHeartbeats 4000000 in
theorem tX1_goes_138 {x : CX} {E : Nat → Value} {Q : Rs → HS → Prop} {X21 X99 : Ct} (EN : EX x E) (G : Gd x cX1_goes "ChantRules$Choir" yX1_goes 10 (Option.some Jvm.ClassFile.FieldType.boolean) Q) (hF : x.1.2.2.2.frames = 4 ∧ x.1.2.2.2.locals = 106) (hC : x.2.2.2.2.2 = (fun _ => false)) (hxt : (∀ z ∈ x.2.2.1.2.1.exceptionTable.toList, False)) (h21 : Snd x 21 X21) (h99 : Snd x 99 X99) : Snd x 138 (bX1_goes_138 E Q X21 X99) := by
  unfold bX1_goes_138
  refine s_aload_n rfl G.b dX1_goes_138 ?_
  exact (s_vsel (s_callF (r0 := (RX7, TX7, 4)) (w := ⟨"ChantRules$Arc", "sings", "()I"⟩) (by decide) rfl G (mX7_sings EN) q1332 (va_Fw.moved (by decide +kernel) G.warm.alike ⟨(EN.nw q740 rfl), (EN.nw q739 rfl), (EN.nw q744 rfl), (EN.nw q742 rfl), (EN.nw q287 rfl)⟩) q741 q743 q99 q745 nmk_68 (rm_of hF (Nat.le_of_ble_eq_true rfl) (Nat.le_of_ble_eq_true rfl)) dX1_goes_139 (tX1_goes_144 EN G hF hC hxt h21 h99) (sx_out G (fun z hz => (hxt z hz).elim)) ) (s_callF (r0 := (RX8, TX8, 5)) (w := ⟨"ChantRules$Arc", "sings", "()I"⟩) (by decide) rfl G (mX8_sings EN) q1332 (va_Fw.moved (by decide +kernel) G.warm.alike ⟨(EN.nw q740 rfl), (EN.nw q739 rfl), (EN.nw q749 rfl), (EN.nw q747 rfl), (EN.nw q293 rfl)⟩) q746 q748 q100 q750 nmk_68 (rm_of hF (Nat.le_of_ble_eq_true rfl) (Nat.le_of_ble_eq_true rfl)) dX1_goes_139 (tX1_goes_144 EN G hF hC hxt h21 h99) (sx_out G (fun z hz => (hxt z hz).elim)) ))
set_option maxHeartbeats 4000000 in
theorem tX1_goes_127 {x : CX} {E : Nat → Value} {Q : Rs → HS → Prop} {X21 X99 : Ct} (EN : EX x E) (G : Gd x cX1_goes "ChantRules$Choir" yX1_goes 10 (Option.some Jvm.ClassFile.FieldType.boolean) Q) (hF : x.1.2.2.2.frames = 4 ∧ x.1.2.2.2.locals = 106) (hC : x.2.2.2.2.2 = (fun _ => false)) (hxt : (∀ z ∈ x.2.2.1.2.1.exceptionTable.toList, False)) (h21 : Snd x 21 X21) (h99 : Snd x 99 X99) : Snd x 127 (bX1_goes_127 E Q X21 X99) := by
  unfold bX1_goes_127
  refine s_iconst (by decide) G.b dX1_goes_127 ?_
  refine s_icmpeq (tgt := 210) G.b dX1_goes_128 (by decide) (tX1_goes_210 EN G hF hC hxt h21 h99) ?_
  refine s_aload G.b dX1_goes_131 ?_
  exact (s_vsel (s_callF (r0 := (RX7, TX7, 4)) (w := ⟨"ChantRules$Arc", "hears", "()I"⟩) (by decide) rfl G (mX7_hears EN) q1344 (va_Fw.moved (by decide +kernel) G.warm.alike ⟨(EN.nw q286 rfl), (EN.nw q285 rfl), (EN.nw q291 rfl), (EN.nw q289 rfl), (EN.nw q287 rfl)⟩) q288 q290 q99 q292 nmk_20 (rm_of hF (Nat.le_of_ble_eq_true rfl) (Nat.le_of_ble_eq_true rfl)) dX1_goes_133 (tX1_goes_138 EN G hF hC hxt h21 h99) (sx_out G (fun z hz => (hxt z hz).elim)) ) (s_callF (r0 := (RX8, TX8, 5)) (w := ⟨"ChantRules$Arc", "hears", "()I"⟩) (by decide) rfl G (mX8_hears EN) q1344 (va_Fw.moved (by decide +kernel) G.warm.alike ⟨(EN.nw q286 rfl), (EN.nw q285 rfl), (EN.nw q297 rfl), (EN.nw q295 rfl), (EN.nw q293 rfl)⟩) q294 q296 q100 q298 nmk_20 (rm_of hF (Nat.le_of_ble_eq_true rfl) (Nat.le_of_ble_eq_true rfl)) dX1_goes_133 (tX1_goes_138 EN G hF hC hxt h21 h99) (sx_out G (fun z hz => (hxt z hz).elim)) ))
set_option maxHeartbeats 4000000 in
theorem tX1_goes_99 {x : CX} {E : Nat → Value} {Q : Rs → HS → Prop} {X21 X99 : Ct} (EN : EX x E) (G : Gd x cX1_goes "ChantRules$Choir" yX1_goes 10 (Option.some Jvm.ClassFile.FieldType.boolean) Q) (hF : x.1.2.2.2.frames = 4 ∧ x.1.2.2.2.locals = 106) (hC : x.2.2.2.2.2 = (fun _ => false)) (hxt : (∀ z ∈ x.2.2.1.2.1.exceptionTable.toList, False)) (h21 : Snd x 21 X21) (h99 : Snd x 99 X99) : Snd x 99 (bX1_goes_99 E Q X21 X99) := by
  unfold bX1_goes_99
  refine s_aload G.b dX1_goes_99 ?_
  refine s_callF (r0 := (RJ9, TJ9, 4)) (w := ⟨"java/util/Iterator", "hasNext", "()Z"⟩) (by decide) rfl G (mJ9_hasNext EN) q1322 (va_Fw.moved (by decide +kernel) G.warm.alike ⟨(EN.nw q380 rfl), (EN.nw q379 rfl), (EN.nw q385 rfl), (EN.nw q383 rfl), (EN.nw q381 rfl)⟩) q382 q384 q91 q386 nmk_15 (rm_of hF (Nat.le_of_ble_eq_true rfl) (Nat.le_of_ble_eq_true rfl)) dX1_goes_101 ?_ (sx_out G (fun z hz => (hxt z hz).elim))
  refine s_ifeq (tgt := 213) G.b dX1_goes_106 (by decide) (tX1_goes_213 EN G hF hC hxt h21 h99) ?_
  refine s_aload G.b dX1_goes_109 ?_
  refine s_callF (r0 := (RJ9, TJ9, 4)) (w := ⟨"java/util/Iterator", "next", "()Ljava/lang/Object;"⟩) (by decide) rfl G (mJ9_next EN) q1324 (va_Fw.moved (by decide +kernel) G.warm.alike ⟨(EN.nw q390 rfl), (EN.nw q389 rfl), (EN.nw q394 rfl), (EN.nw q392 rfl), (EN.nw q381 rfl)⟩) q391 q393 q91 q395 nmk_16 (rm_of hF (Nat.le_of_ble_eq_true rfl) (Nat.le_of_ble_eq_true rfl)) dX1_goes_111 ?_ (sx_out G (fun z hz => (hxt z hz).elim))
  refine s_cast G.b G.ow G.kn G.hts q1325 ct_1 dX1_goes_116 ?_
  refine s_astore G.b (by rw [G.nl]; decide) (fun _ _ => by rw [hC]) dX1_goes_119 ?_
  refine s_aload_n rfl G.b dX1_goes_121 ?_
  exact (s_vsel (s_callF (r0 := (RX7, TX7, 4)) (w := ⟨"ChantRules$Arc", "sings", "()I"⟩) (by decide) rfl G (mX7_sings EN) q1332 (va_Fw.moved (by decide +kernel) G.warm.alike ⟨(EN.nw q740 rfl), (EN.nw q739 rfl), (EN.nw q744 rfl), (EN.nw q742 rfl), (EN.nw q287 rfl)⟩) q741 q743 q99 q745 nmk_68 (rm_of hF (Nat.le_of_ble_eq_true rfl) (Nat.le_of_ble_eq_true rfl)) dX1_goes_122 (tX1_goes_127 EN G hF hC hxt h21 h99) (sx_out G (fun z hz => (hxt z hz).elim)) ) (s_callF (r0 := (RX8, TX8, 5)) (w := ⟨"ChantRules$Arc", "sings", "()I"⟩) (by decide) rfl G (mX8_sings EN) q1332 (va_Fw.moved (by decide +kernel) G.warm.alike ⟨(EN.nw q740 rfl), (EN.nw q739 rfl), (EN.nw q749 rfl), (EN.nw q747 rfl), (EN.nw q293 rfl)⟩) q746 q748 q100 q750 nmk_68 (rm_of hF (Nat.le_of_ble_eq_true rfl) (Nat.le_of_ble_eq_true rfl)) dX1_goes_122 (tX1_goes_127 EN G hF hC hxt h21 h99) (sx_out G (fun z hz => (hxt z hz).elim)) ))
set_option maxHeartbeats 4000000 in
theorem tX1_goes_89 {x : CX} {E : Nat → Value} {Q : Rs → HS → Prop} {X21 X99 : Ct} (EN : EX x E) (G : Gd x cX1_goes "ChantRules$Choir" yX1_goes 10 (Option.some Jvm.ClassFile.FieldType.boolean) Q) (hF : x.1.2.2.2.frames = 4 ∧ x.1.2.2.2.locals = 106) (hC : x.2.2.2.2.2 = (fun _ => false)) (hxt : (∀ z ∈ x.2.2.1.2.1.exceptionTable.toList, False)) (h21 : Snd x 21 X21) (h99 : Snd x 99 X99) : Snd x 89 (bX1_goes_89 E Q X21 X99) := by
  unfold bX1_goes_89
  refine s_aload G.b dX1_goes_89 ?_
  refine s_getfN G.b G.ow G.kn (va_Nw.use rfl (va_Nw.warmF G.warm (EN.nw q177 rfl))) (fun _ h => h) fa_3 dX1_goes_91 ?_
  refine s_callV G (mJ2_iterator EN) q1320 q355 (sel_cons (r := (RJ2, TJ2, 3)) (by decide) rfl q356 (sel_nil)) q82 q357 nmk_18 (rm_of hF (Nat.le_of_ble_eq_true rfl) (Nat.le_of_ble_eq_true rfl)) dX1_goes_94 ?_ (sx_out G (fun z hz => (hxt z hz).elim))
  refine s_astore G.b (by rw [G.nl]; decide) (fun _ _ => by rw [hC]) dX1_goes_97 ?_
  exact h99
set_option maxHeartbeats 4000000 in
theorem tX1_goes_77 {x : CX} {E : Nat → Value} {Q : Rs → HS → Prop} {X21 X99 : Ct} (EN : EX x E) (G : Gd x cX1_goes "ChantRules$Choir" yX1_goes 10 (Option.some Jvm.ClassFile.FieldType.boolean) Q) (hF : x.1.2.2.2.frames = 4 ∧ x.1.2.2.2.locals = 106) (hC : x.2.2.2.2.2 = (fun _ => false)) (hxt : (∀ z ∈ x.2.2.1.2.1.exceptionTable.toList, False)) (h21 : Snd x 21 X21) (h99 : Snd x 99 X99) : Snd x 77 (bX1_goes_77 E Q X21 X99) := by
  unfold bX1_goes_77
  refine s_callV G (mX1_isLess EN) q1339 q1341 (sel_cons (r := (RX1, TX1, 4)) (by decide) rfl qs18 (sel_nil)) q77 q1342 nmk_122 (rm_of hF (Nat.le_of_ble_eq_true rfl) (Nat.le_of_ble_eq_true rfl)) dX1_goes_77 ?_ (sx_out G (fun z hz => (hxt z hz).elim))
  refine s_ior G.b dX1_goes_80 ?_
  refine s_istore G.b (by rw [G.nl]; decide) (fun _ _ => by rw [hC]) dX1_goes_81 ?_
  refine s_iinc (by decide) G.b (by rw [G.nl]; decide) (fun _ _ => by rw [hC]) dX1_goes_83 ?_
  exact s_goto (tgt := 21) G.b dX1_goes_86 (by decide) h21
set_option maxHeartbeats 4000000 in
theorem tX1_goes_66 {x : CX} {E : Nat → Value} {Q : Rs → HS → Prop} {X21 X99 : Ct} (EN : EX x E) (G : Gd x cX1_goes "ChantRules$Choir" yX1_goes 10 (Option.some Jvm.ClassFile.FieldType.boolean) Q) (hF : x.1.2.2.2.frames = 4 ∧ x.1.2.2.2.locals = 106) (hC : x.2.2.2.2.2 = (fun _ => false)) (hxt : (∀ z ∈ x.2.2.1.2.1.exceptionTable.toList, False)) (h21 : Snd x 21 X21) (h99 : Snd x 99 X99) : Snd x 66 (bX1_goes_66 E Q X21 X99) := by
  unfold bX1_goes_66
  refine s_imul G.b dX1_goes_66 ?_
  refine s_iadd G.b dX1_goes_67 ?_
  refine s_iload G.b dX1_goes_68 ?_
  refine s_iadd G.b dX1_goes_70 ?_
  refine s_aload_n rfl G.b dX1_goes_71 ?_
  exact (s_vsel (s_callF (r0 := (RX7, TX7, 4)) (w := ⟨"ChantRules$Arc", "weight", "()I"⟩) (by decide) rfl G (mX7_weight EN) q1338 (va_Fw.moved (by decide +kernel) G.warm.alike ⟨(EN.nw q770 rfl), (EN.nw q769 rfl), (EN.nw q774 rfl), (EN.nw q772 rfl), (EN.nw q287 rfl)⟩) q771 q773 q99 q775 nmk_17 (rm_of hF (Nat.le_of_ble_eq_true rfl) (Nat.le_of_ble_eq_true rfl)) dX1_goes_72 (tX1_goes_77 EN G hF hC hxt h21 h99) (sx_out G (fun z hz => (hxt z hz).elim)) ) (s_callF (r0 := (RX8, TX8, 5)) (w := ⟨"ChantRules$Arc", "weight", "()I"⟩) (by decide) rfl G (mX8_weight EN) q1338 (va_Fw.moved (by decide +kernel) G.warm.alike ⟨(EN.nw q770 rfl), (EN.nw q769 rfl), (EN.nw q779 rfl), (EN.nw q777 rfl), (EN.nw q293 rfl)⟩) q776 q778 q100 q780 nmk_17 (rm_of hF (Nat.le_of_ble_eq_true rfl) (Nat.le_of_ble_eq_true rfl)) dX1_goes_72 (tX1_goes_77 EN G hF hC hxt h21 h99) (sx_out G (fun z hz => (hxt z hz).elim)) ))
set_option maxHeartbeats 4000000 in
theorem tX1_goes_51 {x : CX} {E : Nat → Value} {Q : Rs → HS → Prop} {X21 X99 : Ct} (EN : EX x E) (G : Gd x cX1_goes "ChantRules$Choir" yX1_goes 10 (Option.some Jvm.ClassFile.FieldType.boolean) Q) (hF : x.1.2.2.2.frames = 4 ∧ x.1.2.2.2.locals = 106) (hC : x.2.2.2.2.2 = (fun _ => false)) (hxt : (∀ z ∈ x.2.2.1.2.1.exceptionTable.toList, False)) (h21 : Snd x 21 X21) (h99 : Snd x 99 X99) : Snd x 51 (bX1_goes_51 E Q X21 X99) := by
  unfold bX1_goes_51
  refine s_imul G.b dX1_goes_51 ?_
  refine s_iadd G.b dX1_goes_52 ?_
  refine s_iload G.b dX1_goes_53 ?_
  refine s_iadd G.b dX1_goes_55 ?_
  refine s_iload G.b dX1_goes_56 ?_
  refine s_iload G.b dX1_goes_58 ?_
  refine s_aload_n rfl G.b dX1_goes_60 ?_
  exact (s_vsel (s_callF (r0 := (RX7, TX7, 4)) (w := ⟨"ChantRules$Arc", "to", "()I"⟩) (by decide) rfl G (mX7_to EN) q1336 (va_Fw.moved (by decide +kernel) G.warm.alike ⟨(EN.nw q726 rfl), (EN.nw q725 rfl), (EN.nw q730 rfl), (EN.nw q728 rfl), (EN.nw q287 rfl)⟩) q727 q729 q99 q731 nmk_69 (rm_of hF (Nat.le_of_ble_eq_true rfl) (Nat.le_of_ble_eq_true rfl)) dX1_goes_61 (tX1_goes_66 EN G hF hC hxt h21 h99) (sx_out G (fun z hz => (hxt z hz).elim)) ) (s_callF (r0 := (RX8, TX8, 5)) (w := ⟨"ChantRules$Arc", "to", "()I"⟩) (by decide) rfl G (mX8_to EN) q1336 (va_Fw.moved (by decide +kernel) G.warm.alike ⟨(EN.nw q726 rfl), (EN.nw q725 rfl), (EN.nw q735 rfl), (EN.nw q733 rfl), (EN.nw q293 rfl)⟩) q732 q734 q100 q736 nmk_69 (rm_of hF (Nat.le_of_ble_eq_true rfl) (Nat.le_of_ble_eq_true rfl)) dX1_goes_61 (tX1_goes_66 EN G hF hC hxt h21 h99) (sx_out G (fun z hz => (hxt z hz).elim)) ))
set_option maxHeartbeats 4000000 in
theorem tX1_goes_34 {x : CX} {E : Nat → Value} {Q : Rs → HS → Prop} {X21 X99 : Ct} (EN : EX x E) (G : Gd x cX1_goes "ChantRules$Choir" yX1_goes 10 (Option.some Jvm.ClassFile.FieldType.boolean) Q) (hF : x.1.2.2.2.frames = 4 ∧ x.1.2.2.2.locals = 106) (hC : x.2.2.2.2.2 = (fun _ => false)) (hxt : (∀ z ∈ x.2.2.1.2.1.exceptionTable.toList, False)) (h21 : Snd x 21 X21) (h99 : Snd x 99 X99) : Snd x 34 (bX1_goes_34 E Q X21 X99) := by
  unfold bX1_goes_34
  refine s_iconst (by decide) G.b dX1_goes_34 ?_
  refine s_icmpne (tgt := 89) G.b dX1_goes_35 (by decide) (tX1_goes_89 EN G hF hC hxt h21 h99) ?_
  refine s_iload G.b dX1_goes_38 ?_
  refine s_aload_n rfl G.b dX1_goes_40 ?_
  refine s_aload_n rfl G.b dX1_goes_41 ?_
  refine s_iload_n rfl G.b dX1_goes_42 ?_
  refine s_iload G.b dX1_goes_43 ?_
  refine s_aload_n rfl G.b dX1_goes_45 ?_
  exact (s_vsel (s_callF (r0 := (RX7, TX7, 4)) (w := ⟨"ChantRules$Arc", "from", "()I"⟩) (by decide) rfl G (mX7_from EN) q1334 (va_Fw.moved (by decide +kernel) G.warm.alike ⟨(EN.nw q712 rfl), (EN.nw q711 rfl), (EN.nw q716 rfl), (EN.nw q714 rfl), (EN.nw q287 rfl)⟩) q713 q715 q99 q717 nmk_70 (rm_of hF (Nat.le_of_ble_eq_true rfl) (Nat.le_of_ble_eq_true rfl)) dX1_goes_46 (tX1_goes_51 EN G hF hC hxt h21 h99) (sx_out G (fun z hz => (hxt z hz).elim)) ) (s_callF (r0 := (RX8, TX8, 5)) (w := ⟨"ChantRules$Arc", "from", "()I"⟩) (by decide) rfl G (mX8_from EN) q1334 (va_Fw.moved (by decide +kernel) G.warm.alike ⟨(EN.nw q712 rfl), (EN.nw q711 rfl), (EN.nw q721 rfl), (EN.nw q719 rfl), (EN.nw q293 rfl)⟩) q718 q720 q100 q722 nmk_70 (rm_of hF (Nat.le_of_ble_eq_true rfl) (Nat.le_of_ble_eq_true rfl)) dX1_goes_46 (tX1_goes_51 EN G hF hC hxt h21 h99) (sx_out G (fun z hz => (hxt z hz).elim)) ))
set_option maxHeartbeats 4000000 in
theorem tX1_goes_21 {x : CX} {E : Nat → Value} {Q : Rs → HS → Prop} {X21 X99 : Ct} (EN : EX x E) (G : Gd x cX1_goes "ChantRules$Choir" yX1_goes 10 (Option.some Jvm.ClassFile.FieldType.boolean) Q) (hF : x.1.2.2.2.frames = 4 ∧ x.1.2.2.2.locals = 106) (hC : x.2.2.2.2.2 = (fun _ => false)) (hxt : (∀ z ∈ x.2.2.1.2.1.exceptionTable.toList, False)) (h21 : Snd x 21 X21) (h99 : Snd x 99 X99) : Snd x 21 (bX1_goes_21 E Q X21 X99) := by
  unfold bX1_goes_21
  refine s_iload G.b dX1_goes_21 ?_
  refine s_iload G.b dX1_goes_23 ?_
  refine s_icmpge (tgt := 89) G.b dX1_goes_25 (by decide) (tX1_goes_89 EN G hF hC hxt h21 h99) ?_
  refine s_aload_n rfl G.b dX1_goes_28 ?_
  exact (s_vsel (s_callF (r0 := (RX7, TX7, 4)) (w := ⟨"ChantRules$Arc", "sings", "()I"⟩) (by decide) rfl G (mX7_sings EN) q1332 (va_Fw.moved (by decide +kernel) G.warm.alike ⟨(EN.nw q740 rfl), (EN.nw q739 rfl), (EN.nw q744 rfl), (EN.nw q742 rfl), (EN.nw q287 rfl)⟩) q741 q743 q99 q745 nmk_68 (rm_of hF (Nat.le_of_ble_eq_true rfl) (Nat.le_of_ble_eq_true rfl)) dX1_goes_29 (tX1_goes_34 EN G hF hC hxt h21 h99) (sx_out G (fun z hz => (hxt z hz).elim)) ) (s_callF (r0 := (RX8, TX8, 5)) (w := ⟨"ChantRules$Arc", "sings", "()I"⟩) (by decide) rfl G (mX8_sings EN) q1332 (va_Fw.moved (by decide +kernel) G.warm.alike ⟨(EN.nw q740 rfl), (EN.nw q739 rfl), (EN.nw q749 rfl), (EN.nw q747 rfl), (EN.nw q293 rfl)⟩) q746 q748 q100 q750 nmk_68 (rm_of hF (Nat.le_of_ble_eq_true rfl) (Nat.le_of_ble_eq_true rfl)) dX1_goes_29 (tX1_goes_34 EN G hF hC hxt h21 h99) (sx_out G (fun z hz => (hxt z hz).elim)) ))
set_option maxHeartbeats 4000000 in
theorem tX1_goes_0 {x : CX} {E : Nat → Value} {Q : Rs → HS → Prop} {X21 X99 : Ct} (EN : EX x E) (G : Gd x cX1_goes "ChantRules$Choir" yX1_goes 10 (Option.some Jvm.ClassFile.FieldType.boolean) Q) (hF : x.1.2.2.2.frames = 4 ∧ x.1.2.2.2.locals = 106) (hC : x.2.2.2.2.2 = (fun _ => false)) (hxt : (∀ z ∈ x.2.2.1.2.1.exceptionTable.toList, False)) (h21 : Snd x 21 X21) (h99 : Snd x 99 X99) : Snd x 0 (bX1_goes_0 E Q X21 X99) := by
  unfold bX1_goes_0
  refine s_aload_n rfl G.b dX1_goes_0 ?_
  refine s_getf G.b G.ow G.kn (G.hts _ q192) (fun _ h => h) fa_5 dX1_goes_1 ?_
  refine s_iconst (by decide) G.b dX1_goes_4 ?_
  refine s_aald G.b G.kn dX1_goes_5 ?_
  refine s_astore G.b (by rw [G.nl]; decide) (fun _ _ => by rw [hC]) dX1_goes_6 ?_
  refine s_aload G.b dX1_goes_8 ?_
  refine s_getfN G.b G.ow G.kn (va_Nw.use rfl (va_Nw.warmF G.warm (EN.nw q182 rfl))) (fun _ h => h) fa_4 dX1_goes_10 ?_
  refine s_istore G.b (by rw [G.nl]; decide) (fun _ _ => by rw [hC]) dX1_goes_13 ?_
  refine s_iconst (by decide) G.b dX1_goes_15 ?_
  refine s_istore G.b (by rw [G.nl]; decide) (fun _ _ => by rw [hC]) dX1_goes_16 ?_
  refine s_iconst (by decide) G.b dX1_goes_18 ?_
  refine s_istore G.b (by rw [G.nl]; decide) (fun _ _ => by rw [hC]) dX1_goes_19 ?_
  exact h21
set_option maxHeartbeats 4000000 in
theorem mX1_goes {l : Launch} {D : DE} {s0 : State} {E : Nat → Value} (EN : EV l D s0 E) : rMet l D s0 yX1_goes (ws_ yX1_goes cX1_goes 10 (Option.some Jvm.ClassFile.FieldType.boolean)) 4 106 (wX1_goes E) := by
  refine body_met (fun _ => false) EN.kn (fun w h => h) (by decide +kernel) rfl (fun av h Q hw => ?_) ?_
  · unfold wX1_goes at hw
    split at hw
    · exact Nat.le_of_ble_eq_true rfl
    · exact hw.elim
  · intro p e s m below meth c av h Q hxt G hw
    unfold wX1_goes at hw
    split at hw
    · exact tX1_goes_0 EN G ⟨rfl, rfl⟩ rfl hxt (fun _ _ _ h => h) (fun _ _ _ h => h) _ _ _ (hw (AW _ 21) (AW _ 99) (tX1_goes_21 EN G ⟨rfl, rfl⟩ rfl hxt (fun _ _ _ h => h) (fun _ _ _ h => h)) (tX1_goes_99 EN G ⟨rfl, rfl⟩ rfl hxt (fun _ _ _ h => h) (fun _ _ _ h => h)))
    · exact hw.elim
/-! ChantRules$Choir.breathesOnce([II)Z (X1_breathesOnce) -/
theorem nmk_123 : nm_ok yX1_goes 4 := ⟨by decide +kernel, by decide +kernel, by decide +kernel⟩
def bX1_breathesOnce_197 (E : Nat → Value) (Q : Rs → HS → Prop) (X27 X96 X121 : Ct) : Ct :=
  o_iload 4 <|
  o_ireturn .boolean Q
def bX1_breathesOnce_194 (E : Nat → Value) (Q : Rs → HS → Prop) (X27 X96 X121 : Ct) : Ct :=
  X96
def bX1_breathesOnce_182 (E : Nat → Value) (Q : Rs → HS → Prop) (X27 X96 X121 : Ct) : Ct :=
  o_callV [1] 5 (wX1_isLess E) (x_out Q) <|
  o_ior <|
  o_istore 4 <|
  o_iinc 7 1 <|
  X121
def bX1_breathesOnce_174 (E : Nat → Value) (Q : Rs → HS → Prop) (X27 X96 X121 : Ct) : Ct :=
  o_iadd <|
  o_aload 6 <|
  o_vsel 1 [10] (o_callV [10] 1 (wX7_weight E) (x_out Q) (bX1_breathesOnce_182 E Q X27 X96 X121)) (o_callV [11] 1 (wX8_weight E) (x_out Q) (bX1_breathesOnce_182 E Q X27 X96 X121))
def bX1_breathesOnce_160 (E : Nat → Value) (Q : Rs → HS → Prop) (X27 X96 X121 : Ct) : Ct :=
  o_iadd <|
  o_iload 2 <|
  o_iload 3 <|
  o_iload 7 <|
  o_imul <|
  o_iadd <|
  o_aload 6 <|
  o_vsel 1 [10] (o_callV [10] 1 (wX7_to E) (x_out Q) (bX1_breathesOnce_174 E Q X27 X96 X121)) (o_callV [11] 1 (wX8_to E) (x_out Q) (bX1_breathesOnce_174 E Q X27 X96 X121))
def bX1_breathesOnce_121 (E : Nat → Value) (Q : Rs → HS → Prop) (X27 X96 X121 : Ct) : Ct :=
  o_iload 7 <|
  o_aload 0 <|
  o_getf [1] 0 <|
  o_push (.int 0) <|
  o_ald [103, 104, 105, 106, 107] <|
  o_getf [2] 2 <|
  o_icmpge (bX1_breathesOnce_194 E Q X27 X96 X121) <|
  o_aload 6 <|
  o_inst [10] [11] <|
  o_ifeq (bX1_breathesOnce_194 E Q X27 X96 X121) <|
  o_iload 4 <|
  o_aload 0 <|
  o_aload 1 <|
  o_iload 2 <|
  o_iload 3 <|
  o_iload 7 <|
  o_imul <|
  o_iadd <|
  o_aload 6 <|
  o_vsel 1 [10] (o_callV [10] 1 (wX7_from E) (x_out Q) (bX1_breathesOnce_160 E Q X27 X96 X121)) (o_callV [11] 1 (wX8_from E) (x_out Q) (bX1_breathesOnce_160 E Q X27 X96 X121))
def bX1_breathesOnce_96 (E : Nat → Value) (Q : Rs → HS → Prop) (X27 X96 X121 : Ct) : Ct :=
  o_aload 5 <|
  o_callV [20] 1 (wJ9_hasNext E) (x_out Q) <|
  o_ifeq (bX1_breathesOnce_197 E Q X27 X96 X121) <|
  o_aload 5 <|
  o_callV [20] 1 (wJ9_next E) (x_out Q) <|
  o_cast [10, 11] <|
  o_astore 6 <|
  o_push (.int 0) <|
  o_istore 7 <|
  X121
def bX1_breathesOnce_82 (E : Nat → Value) (Q : Rs → HS → Prop) (X27 X96 X121 : Ct) : Ct :=
  o_aload 0 <|
  o_getf [1] 0 <|
  o_push (.int 1) <|
  o_ald [103, 104, 105, 106, 107] <|
  o_getf [2] 0 <|
  o_callV [15] 1 (wJ2_iterator E) (x_out Q) <|
  o_astore 5 <|
  X96
def bX1_breathesOnce_76 (E : Nat → Value) (Q : Rs → HS → Prop) (X27 X96 X121 : Ct) : Ct :=
  o_ior <|
  o_istore 4 <|
  X27
def bX1_breathesOnce_75 (E : Nat → Value) (Q : Rs → HS → Prop) (X27 X96 X121 : Ct) : Ct :=
  o_push (.int 0) <|
  (bX1_breathesOnce_76 E Q X27 X96 X121)
def bX1_breathesOnce_27 (E : Nat → Value) (Q : Rs → HS → Prop) (X27 X96 X121 : Ct) : Ct :=
  o_aload 5 <|
  o_callV [20] 1 (wJ9_hasNext E) (x_out Q) <|
  o_ifeq (bX1_breathesOnce_82 E Q X27 X96 X121) <|
  o_aload 5 <|
  o_callV [20] 1 (wJ9_next E) (x_out Q) <|
  o_cast [10, 11] <|
  o_astore 6 <|
  o_iload 4 <|
  o_aload 6 <|
  o_inst [10] [11] <|
  o_ifeq (bX1_breathesOnce_75 E Q X27 X96 X121) <|
  o_aload 0 <|
  o_aload 1 <|
  o_aload 6 <|
  o_iload 2 <|
  o_iload 2 <|
  o_callV [1] 5 (wX1_goes E) (x_out Q) <|
  o_ifeq (bX1_breathesOnce_75 E Q X27 X96 X121) <|
  o_push (.int 1) <|
  (bX1_breathesOnce_76 E Q X27 X96 X121)
def bX1_breathesOnce_0 (E : Nat → Value) (Q : Rs → HS → Prop) (X27 X96 X121 : Ct) : Ct :=
  o_aload 0 <|
  o_getf [1] 0 <|
  o_push (.int 1) <|
  o_ald [103, 104, 105, 106, 107] <|
  o_getf [2] 2 <|
  o_istore 3 <|
  o_push (.int 0) <|
  o_istore 4 <|
  o_aload 0 <|
  o_getf [1] 0 <|
  o_push (.int 0) <|
  o_ald [103, 104, 105, 106, 107] <|
  o_getf [2] 0 <|
  o_callV [15] 1 (wJ2_iterator E) (x_out Q) <|
  o_astore 5 <|
  X27
def wX1_breathesOnce (E : Nat → Value) : Wp := fun av h Q => match av with
  | [a0, a1, a2] => ∀ X27 X96 X121 : Ct, (∀ ls st h, bX1_breathesOnce_27 E Q X27 X96 X121 ls st h → X27 ls st h) → (∀ ls st h, bX1_breathesOnce_96 E Q X27 X96 X121 ls st h → X96 ls st h) → (∀ ls st h, bX1_breathesOnce_121 E Q X27 X96 X121 ls st h → X121 ls st h) → bX1_breathesOnce_0 E Q X27 X96 X121 [a0, a1, a2, jk, jk, jk, jk, jk] [] h
  | _ => False
set_option maxHeartbeats 4000000 in
theorem tX1_breathesOnce_197 {x : CX} {E : Nat → Value} {Q : Rs → HS → Prop} {X27 X96 X121 : Ct} (EN : EX x E) (G : Gd x cX1_breathesOnce "ChantRules$Choir" yX1_breathesOnce 8 (Option.some Jvm.ClassFile.FieldType.boolean) Q) (hF : x.1.2.2.2.frames = 5 ∧ x.1.2.2.2.locals = 135) (hC : x.2.2.2.2.2 = (fun _ => false)) (hxt : (∀ z ∈ x.2.2.1.2.1.exceptionTable.toList, False)) (h27 : Snd x 27 X27) (h96 : Snd x 96 X96) (h121 : Snd x 121 X121) : Snd x 197 (bX1_breathesOnce_197 E Q X27 X96 X121) := by
  unfold bX1_breathesOnce_197
  refine s_iload G.b dX1_breathesOnce_197 ?_
  exact s_ireturn G dX1_breathesOnce_199
set_option maxHeartbeats 4000000 in
theorem tX1_breathesOnce_194 {x : CX} {E : Nat → Value} {Q : Rs → HS → Prop} {X27 X96 X121 : Ct} (EN : EX x E) (G : Gd x cX1_breathesOnce "ChantRules$Choir" yX1_breathesOnce 8 (Option.some Jvm.ClassFile.FieldType.boolean) Q) (hF : x.1.2.2.2.frames = 5 ∧ x.1.2.2.2.locals = 135) (hC : x.2.2.2.2.2 = (fun _ => false)) (hxt : (∀ z ∈ x.2.2.1.2.1.exceptionTable.toList, False)) (h27 : Snd x 27 X27) (h96 : Snd x 96 X96) (h121 : Snd x 121 X121) : Snd x 194 (bX1_breathesOnce_194 E Q X27 X96 X121) := by
  unfold bX1_breathesOnce_194
  exact s_goto (tgt := 96) G.b dX1_breathesOnce_194 (by decide) h96
set_option maxHeartbeats 4000000 in
theorem tX1_breathesOnce_182 {x : CX} {E : Nat → Value} {Q : Rs → HS → Prop} {X27 X96 X121 : Ct} (EN : EX x E) (G : Gd x cX1_breathesOnce "ChantRules$Choir" yX1_breathesOnce 8 (Option.some Jvm.ClassFile.FieldType.boolean) Q) (hF : x.1.2.2.2.frames = 5 ∧ x.1.2.2.2.locals = 135) (hC : x.2.2.2.2.2 = (fun _ => false)) (hxt : (∀ z ∈ x.2.2.1.2.1.exceptionTable.toList, False)) (h27 : Snd x 27 X27) (h96 : Snd x 96 X96) (h121 : Snd x 121 X121) : Snd x 182 (bX1_breathesOnce_182 E Q X27 X96 X121) := by
  unfold bX1_breathesOnce_182
  refine s_callV G (mX1_isLess EN) q1339 q1341 (sel_cons (r := (RX1, TX1, 4)) (by decide) rfl qs18 (sel_nil)) q77 q1342 nmk_122 (rm_of hF (Nat.le_of_ble_eq_true rfl) (Nat.le_of_ble_eq_true rfl)) dX1_breathesOnce_182 ?_ (sx_out G (fun z hz => (hxt z hz).elim))
  refine s_ior G.b dX1_breathesOnce_185 ?_
  refine s_istore G.b (by rw [G.nl]; decide) (fun _ _ => by rw [hC]) dX1_breathesOnce_186 ?_
  refine s_iinc (by decide) G.b (by rw [G.nl]; decide) (fun _ _ => by rw [hC]) dX1_breathesOnce_188 ?_
  exact s_goto (tgt := 121) G.b dX1_breathesOnce_191 (by decide) h121
set_option maxHeartbeats 4000000 in
theorem tX1_breathesOnce_174 {x : CX} {E : Nat → Value} {Q : Rs → HS → Prop} {X27 X96 X121 : Ct} (EN : EX x E) (G : Gd x cX1_breathesOnce "ChantRules$Choir" yX1_breathesOnce 8 (Option.some Jvm.ClassFile.FieldType.boolean) Q) (hF : x.1.2.2.2.frames = 5 ∧ x.1.2.2.2.locals = 135) (hC : x.2.2.2.2.2 = (fun _ => false)) (hxt : (∀ z ∈ x.2.2.1.2.1.exceptionTable.toList, False)) (h27 : Snd x 27 X27) (h96 : Snd x 96 X96) (h121 : Snd x 121 X121) : Snd x 174 (bX1_breathesOnce_174 E Q X27 X96 X121) := by
  unfold bX1_breathesOnce_174
  refine s_iadd G.b dX1_breathesOnce_174 ?_
  refine s_aload G.b dX1_breathesOnce_175 ?_
  exact (s_vsel (s_callF (r0 := (RX7, TX7, 4)) (w := ⟨"ChantRules$Arc", "weight", "()I"⟩) (by decide) rfl G (mX7_weight EN) q1338 (va_Fw.moved (by decide +kernel) G.warm.alike ⟨(EN.nw q770 rfl), (EN.nw q769 rfl), (EN.nw q774 rfl), (EN.nw q772 rfl), (EN.nw q287 rfl)⟩) q771 q773 q99 q775 nmk_17 (rm_of hF (Nat.le_of_ble_eq_true rfl) (Nat.le_of_ble_eq_true rfl)) dX1_breathesOnce_177 (tX1_breathesOnce_182 EN G hF hC hxt h27 h96 h121) (sx_out G (fun z hz => (hxt z hz).elim)) ) (s_callF (r0 := (RX8, TX8, 5)) (w := ⟨"ChantRules$Arc", "weight", "()I"⟩) (by decide) rfl G (mX8_weight EN) q1338 (va_Fw.moved (by decide +kernel) G.warm.alike ⟨(EN.nw q770 rfl), (EN.nw q769 rfl), (EN.nw q779 rfl), (EN.nw q777 rfl), (EN.nw q293 rfl)⟩) q776 q778 q100 q780 nmk_17 (rm_of hF (Nat.le_of_ble_eq_true rfl) (Nat.le_of_ble_eq_true rfl)) dX1_breathesOnce_177 (tX1_breathesOnce_182 EN G hF hC hxt h27 h96 h121) (sx_out G (fun z hz => (hxt z hz).elim)) ))
set_option maxHeartbeats 4000000 in
theorem tX1_breathesOnce_160 {x : CX} {E : Nat → Value} {Q : Rs → HS → Prop} {X27 X96 X121 : Ct} (EN : EX x E) (G : Gd x cX1_breathesOnce "ChantRules$Choir" yX1_breathesOnce 8 (Option.some Jvm.ClassFile.FieldType.boolean) Q) (hF : x.1.2.2.2.frames = 5 ∧ x.1.2.2.2.locals = 135) (hC : x.2.2.2.2.2 = (fun _ => false)) (hxt : (∀ z ∈ x.2.2.1.2.1.exceptionTable.toList, False)) (h27 : Snd x 27 X27) (h96 : Snd x 96 X96) (h121 : Snd x 121 X121) : Snd x 160 (bX1_breathesOnce_160 E Q X27 X96 X121) := by
  unfold bX1_breathesOnce_160
  refine s_iadd G.b dX1_breathesOnce_160 ?_
  refine s_iload_n rfl G.b dX1_breathesOnce_161 ?_
  refine s_iload_n rfl G.b dX1_breathesOnce_162 ?_
  refine s_iload G.b dX1_breathesOnce_163 ?_
  refine s_imul G.b dX1_breathesOnce_165 ?_
  refine s_iadd G.b dX1_breathesOnce_166 ?_
  refine s_aload G.b dX1_breathesOnce_167 ?_
  exact (s_vsel (s_callF (r0 := (RX7, TX7, 4)) (w := ⟨"ChantRules$Arc", "to", "()I"⟩) (by decide) rfl G (mX7_to EN) q1336 (va_Fw.moved (by decide +kernel) G.warm.alike ⟨(EN.nw q726 rfl), (EN.nw q725 rfl), (EN.nw q730 rfl), (EN.nw q728 rfl), (EN.nw q287 rfl)⟩) q727 q729 q99 q731 nmk_69 (rm_of hF (Nat.le_of_ble_eq_true rfl) (Nat.le_of_ble_eq_true rfl)) dX1_breathesOnce_169 (tX1_breathesOnce_174 EN G hF hC hxt h27 h96 h121) (sx_out G (fun z hz => (hxt z hz).elim)) ) (s_callF (r0 := (RX8, TX8, 5)) (w := ⟨"ChantRules$Arc", "to", "()I"⟩) (by decide) rfl G (mX8_to EN) q1336 (va_Fw.moved (by decide +kernel) G.warm.alike ⟨(EN.nw q726 rfl), (EN.nw q725 rfl), (EN.nw q735 rfl), (EN.nw q733 rfl), (EN.nw q293 rfl)⟩) q732 q734 q100 q736 nmk_69 (rm_of hF (Nat.le_of_ble_eq_true rfl) (Nat.le_of_ble_eq_true rfl)) dX1_breathesOnce_169 (tX1_breathesOnce_174 EN G hF hC hxt h27 h96 h121) (sx_out G (fun z hz => (hxt z hz).elim)) ))
set_option maxHeartbeats 4000000 in
theorem tX1_breathesOnce_121 {x : CX} {E : Nat → Value} {Q : Rs → HS → Prop} {X27 X96 X121 : Ct} (EN : EX x E) (G : Gd x cX1_breathesOnce "ChantRules$Choir" yX1_breathesOnce 8 (Option.some Jvm.ClassFile.FieldType.boolean) Q) (hF : x.1.2.2.2.frames = 5 ∧ x.1.2.2.2.locals = 135) (hC : x.2.2.2.2.2 = (fun _ => false)) (hxt : (∀ z ∈ x.2.2.1.2.1.exceptionTable.toList, False)) (h27 : Snd x 27 X27) (h96 : Snd x 96 X96) (h121 : Snd x 121 X121) : Snd x 121 (bX1_breathesOnce_121 E Q X27 X96 X121) := by
  unfold bX1_breathesOnce_121
  refine s_iload G.b dX1_breathesOnce_121 ?_
  refine s_aload_n rfl G.b dX1_breathesOnce_123 ?_
  refine s_getf G.b G.ow G.kn (G.hts _ q192) (fun _ h => h) fa_5 dX1_breathesOnce_124 ?_
  refine s_iconst (by decide) G.b dX1_breathesOnce_127 ?_
  refine s_aald G.b G.kn dX1_breathesOnce_128 ?_
  refine s_getfN G.b G.ow G.kn (va_Nw.use rfl (va_Nw.warmF G.warm (EN.nw q182 rfl))) (fun _ h => h) fa_4 dX1_breathesOnce_129 ?_
  refine s_icmpge (tgt := 194) G.b dX1_breathesOnce_132 (by decide) (tX1_breathesOnce_194 EN G hF hC hxt h27 h96 h121) ?_
  refine s_aload G.b dX1_breathesOnce_135 ?_
  refine s_inst G.b G.ow G.kn G.hts q1326 ct_6y ct_6n dX1_breathesOnce_137 ?_
  refine s_ifeq (tgt := 194) G.b dX1_breathesOnce_140 (by decide) (tX1_breathesOnce_194 EN G hF hC hxt h27 h96 h121) ?_
  refine s_iload G.b dX1_breathesOnce_143 ?_
  refine s_aload_n rfl G.b dX1_breathesOnce_145 ?_
  refine s_aload_n rfl G.b dX1_breathesOnce_146 ?_
  refine s_iload_n rfl G.b dX1_breathesOnce_147 ?_
  refine s_iload_n rfl G.b dX1_breathesOnce_148 ?_
  refine s_iload G.b dX1_breathesOnce_149 ?_
  refine s_imul G.b dX1_breathesOnce_151 ?_
  refine s_iadd G.b dX1_breathesOnce_152 ?_
  refine s_aload G.b dX1_breathesOnce_153 ?_
  exact (s_vsel (s_callF (r0 := (RX7, TX7, 4)) (w := ⟨"ChantRules$Arc", "from", "()I"⟩) (by decide) rfl G (mX7_from EN) q1334 (va_Fw.moved (by decide +kernel) G.warm.alike ⟨(EN.nw q712 rfl), (EN.nw q711 rfl), (EN.nw q716 rfl), (EN.nw q714 rfl), (EN.nw q287 rfl)⟩) q713 q715 q99 q717 nmk_70 (rm_of hF (Nat.le_of_ble_eq_true rfl) (Nat.le_of_ble_eq_true rfl)) dX1_breathesOnce_155 (tX1_breathesOnce_160 EN G hF hC hxt h27 h96 h121) (sx_out G (fun z hz => (hxt z hz).elim)) ) (s_callF (r0 := (RX8, TX8, 5)) (w := ⟨"ChantRules$Arc", "from", "()I"⟩) (by decide) rfl G (mX8_from EN) q1334 (va_Fw.moved (by decide +kernel) G.warm.alike ⟨(EN.nw q712 rfl), (EN.nw q711 rfl), (EN.nw q721 rfl), (EN.nw q719 rfl), (EN.nw q293 rfl)⟩) q718 q720 q100 q722 nmk_70 (rm_of hF (Nat.le_of_ble_eq_true rfl) (Nat.le_of_ble_eq_true rfl)) dX1_breathesOnce_155 (tX1_breathesOnce_160 EN G hF hC hxt h27 h96 h121) (sx_out G (fun z hz => (hxt z hz).elim)) ))
set_option maxHeartbeats 4000000 in
theorem tX1_breathesOnce_96 {x : CX} {E : Nat → Value} {Q : Rs → HS → Prop} {X27 X96 X121 : Ct} (EN : EX x E) (G : Gd x cX1_breathesOnce "ChantRules$Choir" yX1_breathesOnce 8 (Option.some Jvm.ClassFile.FieldType.boolean) Q) (hF : x.1.2.2.2.frames = 5 ∧ x.1.2.2.2.locals = 135) (hC : x.2.2.2.2.2 = (fun _ => false)) (hxt : (∀ z ∈ x.2.2.1.2.1.exceptionTable.toList, False)) (h27 : Snd x 27 X27) (h96 : Snd x 96 X96) (h121 : Snd x 121 X121) : Snd x 96 (bX1_breathesOnce_96 E Q X27 X96 X121) := by
  unfold bX1_breathesOnce_96
  refine s_aload G.b dX1_breathesOnce_96 ?_
  refine s_callF (r0 := (RJ9, TJ9, 4)) (w := ⟨"java/util/Iterator", "hasNext", "()Z"⟩) (by decide) rfl G (mJ9_hasNext EN) q1322 (va_Fw.moved (by decide +kernel) G.warm.alike ⟨(EN.nw q380 rfl), (EN.nw q379 rfl), (EN.nw q385 rfl), (EN.nw q383 rfl), (EN.nw q381 rfl)⟩) q382 q384 q91 q386 nmk_15 (rm_of hF (Nat.le_of_ble_eq_true rfl) (Nat.le_of_ble_eq_true rfl)) dX1_breathesOnce_98 ?_ (sx_out G (fun z hz => (hxt z hz).elim))
  refine s_ifeq (tgt := 197) G.b dX1_breathesOnce_103 (by decide) (tX1_breathesOnce_197 EN G hF hC hxt h27 h96 h121) ?_
  refine s_aload G.b dX1_breathesOnce_106 ?_
  refine s_callF (r0 := (RJ9, TJ9, 4)) (w := ⟨"java/util/Iterator", "next", "()Ljava/lang/Object;"⟩) (by decide) rfl G (mJ9_next EN) q1324 (va_Fw.moved (by decide +kernel) G.warm.alike ⟨(EN.nw q390 rfl), (EN.nw q389 rfl), (EN.nw q394 rfl), (EN.nw q392 rfl), (EN.nw q381 rfl)⟩) q391 q393 q91 q395 nmk_16 (rm_of hF (Nat.le_of_ble_eq_true rfl) (Nat.le_of_ble_eq_true rfl)) dX1_breathesOnce_108 ?_ (sx_out G (fun z hz => (hxt z hz).elim))
  refine s_cast G.b G.ow G.kn G.hts q1325 ct_1 dX1_breathesOnce_113 ?_
  refine s_astore G.b (by rw [G.nl]; decide) (fun _ _ => by rw [hC]) dX1_breathesOnce_116 ?_
  refine s_iconst (by decide) G.b dX1_breathesOnce_118 ?_
  refine s_istore G.b (by rw [G.nl]; decide) (fun _ _ => by rw [hC]) dX1_breathesOnce_119 ?_
  exact h121
set_option maxHeartbeats 4000000 in
theorem tX1_breathesOnce_82 {x : CX} {E : Nat → Value} {Q : Rs → HS → Prop} {X27 X96 X121 : Ct} (EN : EX x E) (G : Gd x cX1_breathesOnce "ChantRules$Choir" yX1_breathesOnce 8 (Option.some Jvm.ClassFile.FieldType.boolean) Q) (hF : x.1.2.2.2.frames = 5 ∧ x.1.2.2.2.locals = 135) (hC : x.2.2.2.2.2 = (fun _ => false)) (hxt : (∀ z ∈ x.2.2.1.2.1.exceptionTable.toList, False)) (h27 : Snd x 27 X27) (h96 : Snd x 96 X96) (h121 : Snd x 121 X121) : Snd x 82 (bX1_breathesOnce_82 E Q X27 X96 X121) := by
  unfold bX1_breathesOnce_82
  refine s_aload_n rfl G.b dX1_breathesOnce_82 ?_
  refine s_getf G.b G.ow G.kn (G.hts _ q192) (fun _ h => h) fa_5 dX1_breathesOnce_83 ?_
  refine s_iconst (by decide) G.b dX1_breathesOnce_86 ?_
  refine s_aald G.b G.kn dX1_breathesOnce_87 ?_
  refine s_getfN G.b G.ow G.kn (va_Nw.use rfl (va_Nw.warmF G.warm (EN.nw q177 rfl))) (fun _ h => h) fa_3 dX1_breathesOnce_88 ?_
  refine s_callV G (mJ2_iterator EN) q1320 q355 (sel_cons (r := (RJ2, TJ2, 3)) (by decide) rfl q356 (sel_nil)) q82 q357 nmk_18 (rm_of hF (Nat.le_of_ble_eq_true rfl) (Nat.le_of_ble_eq_true rfl)) dX1_breathesOnce_91 ?_ (sx_out G (fun z hz => (hxt z hz).elim))
  refine s_astore G.b (by rw [G.nl]; decide) (fun _ _ => by rw [hC]) dX1_breathesOnce_94 ?_
  exact h96
set_option maxHeartbeats 4000000 in
theorem tX1_breathesOnce_76 {x : CX} {E : Nat → Value} {Q : Rs → HS → Prop} {X27 X96 X121 : Ct} (EN : EX x E) (G : Gd x cX1_breathesOnce "ChantRules$Choir" yX1_breathesOnce 8 (Option.some Jvm.ClassFile.FieldType.boolean) Q) (hF : x.1.2.2.2.frames = 5 ∧ x.1.2.2.2.locals = 135) (hC : x.2.2.2.2.2 = (fun _ => false)) (hxt : (∀ z ∈ x.2.2.1.2.1.exceptionTable.toList, False)) (h27 : Snd x 27 X27) (h96 : Snd x 96 X96) (h121 : Snd x 121 X121) : Snd x 76 (bX1_breathesOnce_76 E Q X27 X96 X121) := by
  unfold bX1_breathesOnce_76
  refine s_ior G.b dX1_breathesOnce_76 ?_
  refine s_istore G.b (by rw [G.nl]; decide) (fun _ _ => by rw [hC]) dX1_breathesOnce_77 ?_
  exact s_goto (tgt := 27) G.b dX1_breathesOnce_79 (by decide) h27
set_option maxHeartbeats 4000000 in
theorem tX1_breathesOnce_75 {x : CX} {E : Nat → Value} {Q : Rs → HS → Prop} {X27 X96 X121 : Ct} (EN : EX x E) (G : Gd x cX1_breathesOnce "ChantRules$Choir" yX1_breathesOnce 8 (Option.some Jvm.ClassFile.FieldType.boolean) Q) (hF : x.1.2.2.2.frames = 5 ∧ x.1.2.2.2.locals = 135) (hC : x.2.2.2.2.2 = (fun _ => false)) (hxt : (∀ z ∈ x.2.2.1.2.1.exceptionTable.toList, False)) (h27 : Snd x 27 X27) (h96 : Snd x 96 X96) (h121 : Snd x 121 X121) : Snd x 75 (bX1_breathesOnce_75 E Q X27 X96 X121) := by
  unfold bX1_breathesOnce_75
  refine s_iconst (by decide) G.b dX1_breathesOnce_75 ?_
  exact (tX1_breathesOnce_76 EN G hF hC hxt h27 h96 h121)
set_option maxHeartbeats 4000000 in
theorem tX1_breathesOnce_27 {x : CX} {E : Nat → Value} {Q : Rs → HS → Prop} {X27 X96 X121 : Ct} (EN : EX x E) (G : Gd x cX1_breathesOnce "ChantRules$Choir" yX1_breathesOnce 8 (Option.some Jvm.ClassFile.FieldType.boolean) Q) (hF : x.1.2.2.2.frames = 5 ∧ x.1.2.2.2.locals = 135) (hC : x.2.2.2.2.2 = (fun _ => false)) (hxt : (∀ z ∈ x.2.2.1.2.1.exceptionTable.toList, False)) (h27 : Snd x 27 X27) (h96 : Snd x 96 X96) (h121 : Snd x 121 X121) : Snd x 27 (bX1_breathesOnce_27 E Q X27 X96 X121) := by
  unfold bX1_breathesOnce_27
  refine s_aload G.b dX1_breathesOnce_27 ?_
  refine s_callF (r0 := (RJ9, TJ9, 4)) (w := ⟨"java/util/Iterator", "hasNext", "()Z"⟩) (by decide) rfl G (mJ9_hasNext EN) q1322 (va_Fw.moved (by decide +kernel) G.warm.alike ⟨(EN.nw q380 rfl), (EN.nw q379 rfl), (EN.nw q385 rfl), (EN.nw q383 rfl), (EN.nw q381 rfl)⟩) q382 q384 q91 q386 nmk_15 (rm_of hF (Nat.le_of_ble_eq_true rfl) (Nat.le_of_ble_eq_true rfl)) dX1_breathesOnce_29 ?_ (sx_out G (fun z hz => (hxt z hz).elim))
  refine s_ifeq (tgt := 82) G.b dX1_breathesOnce_34 (by decide) (tX1_breathesOnce_82 EN G hF hC hxt h27 h96 h121) ?_
  refine s_aload G.b dX1_breathesOnce_37 ?_
  refine s_callF (r0 := (RJ9, TJ9, 4)) (w := ⟨"java/util/Iterator", "next", "()Ljava/lang/Object;"⟩) (by decide) rfl G (mJ9_next EN) q1324 (va_Fw.moved (by decide +kernel) G.warm.alike ⟨(EN.nw q390 rfl), (EN.nw q389 rfl), (EN.nw q394 rfl), (EN.nw q392 rfl), (EN.nw q381 rfl)⟩) q391 q393 q91 q395 nmk_16 (rm_of hF (Nat.le_of_ble_eq_true rfl) (Nat.le_of_ble_eq_true rfl)) dX1_breathesOnce_39 ?_ (sx_out G (fun z hz => (hxt z hz).elim))
  refine s_cast G.b G.ow G.kn G.hts q1325 ct_1 dX1_breathesOnce_44 ?_
  refine s_astore G.b (by rw [G.nl]; decide) (fun _ _ => by rw [hC]) dX1_breathesOnce_47 ?_
  refine s_iload G.b dX1_breathesOnce_49 ?_
  refine s_aload G.b dX1_breathesOnce_51 ?_
  refine s_inst G.b G.ow G.kn G.hts q1326 ct_6y ct_6n dX1_breathesOnce_53 ?_
  refine s_ifeq (tgt := 75) G.b dX1_breathesOnce_56 (by decide) (tX1_breathesOnce_75 EN G hF hC hxt h27 h96 h121) ?_
  refine s_aload_n rfl G.b dX1_breathesOnce_59 ?_
  refine s_aload_n rfl G.b dX1_breathesOnce_60 ?_
  refine s_aload G.b dX1_breathesOnce_61 ?_
  refine s_iload_n rfl G.b dX1_breathesOnce_63 ?_
  refine s_iload_n rfl G.b dX1_breathesOnce_64 ?_
  refine s_callV G (mX1_goes EN) q1327 q1329 (sel_cons (r := (RX1, TX1, 4)) (by decide) rfl qs17 (sel_nil)) q77 q1330 nmk_123 (rm_of hF (Nat.le_of_ble_eq_true rfl) (Nat.le_of_ble_eq_true rfl)) dX1_breathesOnce_65 ?_ (sx_out G (fun z hz => (hxt z hz).elim))
  refine s_ifeq (tgt := 75) G.b dX1_breathesOnce_68 (by decide) (tX1_breathesOnce_75 EN G hF hC hxt h27 h96 h121) ?_
  refine s_iconst (by decide) G.b dX1_breathesOnce_71 ?_
  exact s_goto (tgt := 76) G.b dX1_breathesOnce_72 (by decide) (tX1_breathesOnce_76 EN G hF hC hxt h27 h96 h121)
set_option maxHeartbeats 4000000 in
theorem tX1_breathesOnce_0 {x : CX} {E : Nat → Value} {Q : Rs → HS → Prop} {X27 X96 X121 : Ct} (EN : EX x E) (G : Gd x cX1_breathesOnce "ChantRules$Choir" yX1_breathesOnce 8 (Option.some Jvm.ClassFile.FieldType.boolean) Q) (hF : x.1.2.2.2.frames = 5 ∧ x.1.2.2.2.locals = 135) (hC : x.2.2.2.2.2 = (fun _ => false)) (hxt : (∀ z ∈ x.2.2.1.2.1.exceptionTable.toList, False)) (h27 : Snd x 27 X27) (h96 : Snd x 96 X96) (h121 : Snd x 121 X121) : Snd x 0 (bX1_breathesOnce_0 E Q X27 X96 X121) := by
  unfold bX1_breathesOnce_0
  refine s_aload_n rfl G.b dX1_breathesOnce_0 ?_
  refine s_getf G.b G.ow G.kn (G.hts _ q192) (fun _ h => h) fa_5 dX1_breathesOnce_1 ?_
  refine s_iconst (by decide) G.b dX1_breathesOnce_4 ?_
  refine s_aald G.b G.kn dX1_breathesOnce_5 ?_
  refine s_getfN G.b G.ow G.kn (va_Nw.use rfl (va_Nw.warmF G.warm (EN.nw q182 rfl))) (fun _ h => h) fa_4 dX1_breathesOnce_6 ?_
  refine s_istore_n rfl G.b (by rw [G.nl]; decide) (fun _ _ => by rw [hC]) dX1_breathesOnce_9 ?_
  refine s_iconst (by decide) G.b dX1_breathesOnce_10 ?_
  refine s_istore G.b (by rw [G.nl]; decide) (fun _ _ => by rw [hC]) dX1_breathesOnce_11 ?_
  refine s_aload_n rfl G.b dX1_breathesOnce_13 ?_
  refine s_getf G.b G.ow G.kn (G.hts _ q192) (fun _ h => h) fa_5 dX1_breathesOnce_14 ?_
  refine s_iconst (by decide) G.b dX1_breathesOnce_17 ?_
  refine s_aald G.b G.kn dX1_breathesOnce_18 ?_
  refine s_getfN G.b G.ow G.kn (va_Nw.use rfl (va_Nw.warmF G.warm (EN.nw q177 rfl))) (fun _ h => h) fa_3 dX1_breathesOnce_19 ?_
  refine s_callV G (mJ2_iterator EN) q1320 q355 (sel_cons (r := (RJ2, TJ2, 3)) (by decide) rfl q356 (sel_nil)) q82 q357 nmk_18 (rm_of hF (Nat.le_of_ble_eq_true rfl) (Nat.le_of_ble_eq_true rfl)) dX1_breathesOnce_22 ?_ (sx_out G (fun z hz => (hxt z hz).elim))
  refine s_astore G.b (by rw [G.nl]; decide) (fun _ _ => by rw [hC]) dX1_breathesOnce_25 ?_
  exact h27
set_option maxHeartbeats 4000000 in
theorem mX1_breathesOnce {l : Launch} {D : DE} {s0 : State} {E : Nat → Value} (EN : EV l D s0 E) : rMet l D s0 yX1_breathesOnce (ws_ yX1_breathesOnce cX1_breathesOnce 8 (Option.some Jvm.ClassFile.FieldType.boolean)) 5 135 (wX1_breathesOnce E) := by
  refine body_met (fun _ => false) EN.kn (fun w h => h) (by decide +kernel) rfl (fun av h Q hw => ?_) ?_
  · unfold wX1_breathesOnce at hw
    split at hw
    · exact Nat.le_of_ble_eq_true rfl
    · exact hw.elim
  · intro p e s m below meth c av h Q hxt G hw
    unfold wX1_breathesOnce at hw
    split at hw
    · exact tX1_breathesOnce_0 EN G ⟨rfl, rfl⟩ rfl hxt (fun _ _ _ h => h) (fun _ _ _ h => h) (fun _ _ _ h => h) _ _ _ (hw (AW _ 27) (AW _ 96) (AW _ 121) (tX1_breathesOnce_27 EN G ⟨rfl, rfl⟩ rfl hxt (fun _ _ _ h => h) (fun _ _ _ h => h) (fun _ _ _ h => h)) (tX1_breathesOnce_96 EN G ⟨rfl, rfl⟩ rfl hxt (fun _ _ _ h => h) (fun _ _ _ h => h) (fun _ _ _ h => h)) (tX1_breathesOnce_121 EN G ⟨rfl, rfl⟩ rfl hxt (fun _ _ _ h => h) (fun _ _ _ h => h) (fun _ _ _ h => h)))
    · exact hw.elim
