set_option maxRecDepth 100000
/-! java/lang/Throwable.<init>()V (J13_init) -/
def bJ13_init_0 (E : Nat → Value) (Q : Rs → HS → Prop) : Ct :=
  o_aload 0 <|
  o_objInit <|
  o_aload 0 <|
  o_aload 0 <|
  o_putf [6, 9, 13] 0 (.object "java/lang/Throwable") <|
  o_aload 0 <|
  o_push (E 13) <|
  o_putf [6, 9, 13] 1 (.array (.object "java/lang/StackTraceElement")) <|
  o_aload 0 <|
  o_push (E 12) <|
  o_putf [6, 9, 13] 2 (.object "java/util/List") <|
  o_aload 0 <|
  o_no
def wJ13_init (E : Nat → Value) : Wp := fun av h Q => match av with
  | [a0] => bJ13_init_0 E Q [a0] [] h
  | _ => False
set_option maxHeartbeats 4000000 in
theorem tJ13_init_0 {x : CX} {E : Nat → Value} {Q : Rs → HS → Prop} (EN : EX x E) (G : Gd x cJ13_init "java/lang/Throwable" yJ13_init 1 (Option.none : Option Jvm.ClassFile.FieldType) Q) (hF : x.1.2.2.2.frames = 2 ∧ x.1.2.2.2.locals = 64) (hC : x.2.2.2.2.2 = (fun _ => false)) (hxt : (∀ z ∈ x.2.2.1.2.1.exceptionTable.toList, False)) : Snd x 0 (bJ13_init_0 E Q) := by
  unfold bJ13_init_0
  refine s_aload_n rfl G.b dJ13_init_0 ?_
  refine s_objInit G.b G.ow G.hts q499 q122 q123 G.ml (by rw [hF.1]; decide) (by rw [hF.2]; decide) dJ13_init_1 ?_
  refine s_aload_n rfl G.b dJ13_init_4 ?_
  refine s_aload_n rfl G.b dJ13_init_5 ?_
  refine s_putf G.b G.ow G.kn (G.hts _ q532) (fun _ h => h) fa_42 (la_cons (r := (RX13, TX13, 7)) G.hts (by decide) rfl q1566 (la_cons (r := (RX6, TX6, 8)) G.hts (by decide) rfl q485 (la_cons (r := (RJ13, TJ13, 5)) G.hts (by decide) rfl q486 (la_nil)))) (by decide +kernel) dJ13_init_6 ?_
  refine s_aload_n rfl G.b dJ13_init_9 ?_
  refine s_getst EN G q500 (i := 13) rfl dJ13_init_10 ?_
  refine s_putf G.b G.ow G.kn (G.hts _ q533) (fun _ h => h) fa_44 (la_cons (r := (RX13, TX13, 7)) G.hts (by decide) rfl q1567 (la_cons (r := (RX6, TX6, 8)) G.hts (by decide) rfl q487 (la_cons (r := (RJ13, TJ13, 5)) G.hts (by decide) rfl q488 (la_nil)))) (by decide +kernel) dJ13_init_13 ?_
  refine s_aload_n rfl G.b dJ13_init_16 ?_
  refine s_getst EN G q502 (i := 12) rfl dJ13_init_17 ?_
  refine s_putf G.b G.ow G.kn (G.hts _ q534) (fun _ h => h) fa_43 (la_cons (r := (RX13, TX13, 7)) G.hts (by decide) rfl q1568 (la_cons (r := (RX6, TX6, 8)) G.hts (by decide) rfl q489 (la_cons (r := (RJ13, TJ13, 5)) G.hts (by decide) rfl q490 (la_nil)))) (by decide +kernel) dJ13_init_20 ?_
  refine s_aload_n rfl G.b dJ13_init_23 ?_
  exact s_no
set_option maxHeartbeats 4000000 in
theorem mJ13_init {l : Launch} {D : DE} {s0 : State} {E : Nat → Value} (EN : EV l D s0 E) : rMet l D s0 yJ13_init (ws_ yJ13_init cJ13_init 1 (Option.none : Option Jvm.ClassFile.FieldType)) 2 64 (wJ13_init E) := by
  refine body_met (fun _ => false) EN.kn (fun w h => h) (by decide +kernel) rfl (fun av h Q hw => ?_) ?_
  · unfold wJ13_init at hw
    split at hw
    · exact Nat.le_of_ble_eq_true rfl
    · exact hw.elim
  · intro p e s m below meth c av h Q hxt G hw
    unfold wJ13_init at hw
    split at hw
    · exact tJ13_init_0 EN G ⟨rfl, rfl⟩ rfl hxt _ _ _ hw
    · exact hw.elim
