/-! THE START (1): the classes, the statics, the strings -/
set_option maxRecDepth 100000
theorem assign_self (vm : Vm) (c : ClassId) : vm.assignable c c = true := by
  show (c == c || _) = true
  rw [beq_self_eq_true, Bool.true_or]
theorem not_cast {args : Array Value} {s : State} {A B : String} {a b : ClassId} (h : (Cond.not (.castable A B)).before args s = true) (ha : s.vm.findClass A = some a) (hb : s.vm.findClass B = some b) : s.vm.assignable a b = false := by
  simpa [Cond.before, Cond.holds, Cond.value, ha, hb] using h
/-- a class with its fields -/
def kfact (s : State) (k : Nat) (cC : ClassId) (iS : Nat → Nat) : Prop := ∀ r : vw_C, ckl[k]? = some r → s.vm.findClass r.1 = some cC ∧ (∀ j, j < r.2.2 → SlotN s (r.2.1 j).1 (r.2.1 j).2.1 (r.2.1 j).2.2.1 (iS j)) ∧ (∀ a b, a < r.2.2 → b < r.2.2 → a ≠ b → iS a ≠ iS b) ∧ (k < 21 → ∃ kC : Class, s.vm.classes[cC]? = some kC ∧ kC.kind = .ordinary)
theorem kn_cls {s : State} {args : Array Value} {C : String} {T : u_T} {N n : Nat} {ty : Nat → FieldType} (hts : ∀ w ∈ lw_all, w.before args s = true) (hin : ∀ w ∈ u_ws C T N, w ∈ lw_all) (hi : Cond.instantiable C n ∈ lw_all) (hty : ∀ k, k < N → parseFieldDescriptor (T k).2.2.1 = some (ty k)) (hnd : ((List.range N).map (fun k => (T k).2.1)).Nodup) :
    ∃ (cC : ClassId) (iS : Nat → Nat), s.vm.findClass C = some cC ∧ (∀ j, j < N → SlotN s (T j).1 (T j).2.1 (T j).2.2.1 (iS j)) ∧ (∀ a b, a < N → b < N → a ≠ b → iS a ≠ iS b) ∧ ∃ kC : Class, s.vm.classes[cC]? = some kC ∧ kC.kind = .ordinary := by
  obtain ⟨cC, iS, hS, hfc, kC, hk, hkind⟩ := u_known hts hin (hts _ hi)
  refine ⟨cC, iS, hfc, fun j hj => ?_, fun a b ha hb hab => ?_, kC, hk, hkind⟩
  · obtain ⟨cf, kf, fi, fd, g1, g2⟩ := hS j hj
    exact ⟨cf, kf, fi, fd, g1, g2, (u_facts hfc hk (u_lays hts hin hj) g1).1⟩
  · obtain ⟨cf, kf, fi, fd, g1, g2⟩ := hS a ha
    obtain ⟨cf', kf', fi', fd', g1', g2'⟩ := hS b hb
    rw [← g2, ← g2']
    refine u_apart (u_lays hts hin ha) (u_lays hts hin hb) g1 g1' ?_
    rw [(State.fieldFound?_type g1 (hty a ha)).1, (State.fieldFound?_type g1' (hty b hb)).1]
    intro e
    have h1 : ((List.range N).map (fun k => (T k).2.1))[a]? = some (T a).2.1 := by simp [ha]
    have h2 : ((List.range N).map (fun k => (T k).2.1))[b]? = some (T b).2.1 := by simp [hb]
    have hl : a < ((List.range N).map (fun k => (T k).2.1)).length := by simpa using ha
    exact hab ((List.getElem?_inj hl hnd).mp (by rw [h1, h2, e]))
section ST
variable {s : State} {b : Nat}
/-- what the Statement gives of the start -/
abbrev Gv (s : State) (b : Nat) : Prop := (Jvm.Cond.and given_1 narrow_1).before #[Value.ref b] s = true
abbrev flN : List Cond := flatC (Jvm.Cond.and given_1 narrow_1)
theorem Gv.at (h : Gv s b) {c : Cond} (hc : c ∈ flN) : c.before #[Value.ref b] s = true := flat_of_before _ h c hc
/-- the slot of Enum.ordinal -/
theorem ord_slot (hts : ∀ w ∈ lw_all, w.before #[Value.ref b] s = true) (hg : Gv s b) : ∃ i, SlotN s "java/lang/Enum" "ordinal" "I" i := by
  obtain ⟨mk, methM, hnamed, -⟩ := Cond.instanceMethod_spec (hts _ q279)
  obtain ⟨ci, c, k, i, f, hi, -⟩ := Cond.fieldLink_spec (findClass_of_methodNamed hnamed) (hts _ q2398) {} rfl
  have hv := va_eqt (hg.at (c := .eq (.field (.static "ChantRules$Sound" "A" "LChantRules$Sound;") "java/lang/Enum" "ordinal" "I") (.int 0)) (by decide +kernel))
  obtain ⟨a, c9, cell, k9, e1, -⟩ := Cond.exactly_spec (hg.at (c := .exactly (.static "ChantRules$Sound" "A" "LChantRules$Sound;") "ChantRules$Sound") (by decide +kernel))
  obtain ⟨g1, -⟩ := Term.field_spec hi e1 hv
  exact ⟨f.slot, c, k, i, f, hi, rfl, g1⟩
theorem kfacts (hts : ∀ w ∈ lw_tbl, w.before #[Value.ref b] s = true) (hg : Gv s b) : ∀ k, ∃ cC iS, kfact s k cC iS := by
  have hta : ∀ w ∈ lw_all, w.before #[Value.ref b] s = true := fun w h => hts w (lw_all_tbl h)
  intro k
  match k with
  | 0 =>
    obtain ⟨cC, iS, h1, h2, h3, h4⟩ := kn_cls (C := RX0) (T := TX0) (N := 10) hta in_X0 q117 tyX0_ok (by decide +kernel)
    exact ⟨cC, iS, fun r hr => by cases hr; exact ⟨h1, h2, h3, fun _ => h4⟩⟩
  | 1 =>
    obtain ⟨cC, iS, h1, h2, h3, h4⟩ := kn_cls (C := RX1) (T := TX1) (N := 4) hta in_X1 q127 tyX1_ok (by decide +kernel)
    exact ⟨cC, iS, fun r hr => by cases hr; exact ⟨h1, h2, h3, fun _ => h4⟩⟩
  | 2 =>
    obtain ⟨cC, iS, h1, h2, h3, h4⟩ := kn_cls (C := RX3) (T := TX3) (N := 3) hta in_X3 q134 tyX3_ok (by decide +kernel)
    exact ⟨cC, iS, fun r hr => by cases hr; exact ⟨h1, h2, h3, fun _ => h4⟩⟩
  | 3 =>
    obtain ⟨cC, iS, h1, h2, h3, h4⟩ := kn_cls (C := RX10) (T := TX10) (N := 3) hta in_X10 q1041 tyX10_ok (by decide +kernel)
    exact ⟨cC, iS, fun r hr => by cases hr; exact ⟨h1, h2, h3, fun _ => h4⟩⟩
  | 4 =>
    obtain ⟨cC, iS, h1, h2, h3, h4⟩ := kn_cls (C := RX11) (T := TX11) (N := 3) hta in_X11 q1246 tyX11_ok (by decide +kernel)
    exact ⟨cC, iS, fun r hr => by cases hr; exact ⟨h1, h2, h3, fun _ => h4⟩⟩
  | 5 =>
    obtain ⟨cC, iS, h1, h2, h3, h4⟩ := kn_cls (C := RX12) (T := TX12) (N := 2) hta in_X12 q1456 tyX12_ok (by decide +kernel)
    exact ⟨cC, iS, fun r hr => by cases hr; exact ⟨h1, h2, h3, fun _ => h4⟩⟩
  | 6 =>
    obtain ⟨cC, iS, h1, h2, h3, h4⟩ := kn_cls (C := RX13) (T := TX13) (N := 7) hta in_X13 q1563 tyX13_ok (by decide +kernel)
    exact ⟨cC, iS, fun r hr => by cases hr; exact ⟨h1, h2, h3, fun _ => h4⟩⟩
  | 7 =>
    obtain ⟨cC, iS, h1, h2, h3, h4⟩ := kn_cls (C := RX14) (T := TX14) (N := 7) hta in_X14 q1582 tyX14_ok (by decide +kernel)
    exact ⟨cC, iS, fun r hr => by cases hr; exact ⟨h1, h2, h3, fun _ => h4⟩⟩
  | 8 =>
    obtain ⟨cC, iS, h1, h2, h3, h4⟩ := kn_cls (C := RX5) (T := TX5) (N := 37) hta in_X5 q1897 tyX5_ok (by decide +kernel)
    exact ⟨cC, iS, fun r hr => by cases hr; exact ⟨h1, h2, h3, fun _ => h4⟩⟩
  | 9 =>
    obtain ⟨cC, iS, h1, h2, h3, h4⟩ := kn_cls (C := RX6) (T := TX6) (N := 8) hta in_X6 q477 tyX6_ok (by decide +kernel)
    exact ⟨cC, iS, fun r hr => by cases hr; exact ⟨h1, h2, h3, fun _ => h4⟩⟩
  | 10 =>
    obtain ⟨cC, iS, h1, h2, h3, h4⟩ := kn_cls (C := RX7) (T := TX7) (N := 4) hta in_X7 q634 tyX7_ok (by decide +kernel)
    exact ⟨cC, iS, fun r hr => by cases hr; exact ⟨h1, h2, h3, fun _ => h4⟩⟩
  | 11 =>
    obtain ⟨cC, iS, h1, h2, h3, h4⟩ := kn_cls (C := RX8) (T := TX8) (N := 5) hta in_X8 q657 tyX8_ok (by decide +kernel)
    exact ⟨cC, iS, fun r hr => by cases hr; exact ⟨h1, h2, h3, fun _ => h4⟩⟩
  | 12 =>
    obtain ⟨cC, iS, h1, h2, h3, h4⟩ := kn_cls (C := RX9) (T := TX9) (N := 2) hta in_X9 q996 tyX9_ok (by decide +kernel)
    exact ⟨cC, iS, fun r hr => by cases hr; exact ⟨h1, h2, h3, fun _ => h4⟩⟩
  | 13 =>
    obtain ⟨cC, iS, h1, h2, h3, h4⟩ := kn_cls (C := RJ13) (T := TJ13) (N := 5) hta in_J13 q512 tyJ13_ok (by decide +kernel)
    exact ⟨cC, iS, fun r hr => by cases hr; exact ⟨h1, h2, h3, fun _ => h4⟩⟩
  | 14 =>
    obtain ⟨cC, iS, h1, h2, h3, h4⟩ := kn_cls (C := RJ19) (T := TJ19) (N := 4) hta in_J19 q1473 tyJ19_ok (by decide +kernel)
    exact ⟨cC, iS, fun r hr => by cases hr; exact ⟨h1, h2, h3, fun _ => h4⟩⟩
  | 15 =>
    obtain ⟨cC, iS, h1, h2, h3, h4⟩ := kn_cls (C := RJ2) (T := TJ2) (N := 3) hta in_J2 q143 tyJ2_ok (by decide +kernel)
    exact ⟨cC, iS, fun r hr => by cases hr; exact ⟨h1, h2, h3, fun _ => h4⟩⟩
  | 16 =>
    obtain ⟨cC, iS, h1, h2, h3, h4⟩ := kn_cls (C := RJ21) (T := TJ21) (N := 3) hta in_J21 q1649 tyJ21_ok (by decide +kernel)
    exact ⟨cC, iS, fun r hr => by cases hr; exact ⟨h1, h2, h3, fun _ => h4⟩⟩
  | 17 =>
    obtain ⟨cC, iS, h1, h2, h3, h4⟩ := kn_cls (C := RJ3) (T := TJ3) (N := 3) hta in_J3 q211 tyJ3_ok (by decide +kernel)
    exact ⟨cC, iS, fun r hr => by cases hr; exact ⟨h1, h2, h3, fun _ => h4⟩⟩
  | 18 =>
    obtain ⟨cC, iS, h1, h2, h3, h4⟩ := kn_cls (C := RJ5) (T := TJ5) (N := 4) hta in_J5 q228 tyJ5_ok (by decide +kernel)
    exact ⟨cC, iS, fun r hr => by cases hr; exact ⟨h1, h2, h3, fun _ => h4⟩⟩
  | 19 =>
    obtain ⟨cC, iS, h1, h2, h3, h4⟩ := kn_cls (C := RJ6) (T := TJ6) (N := 4) hta in_J6 q1191 tyJ6_ok (by decide +kernel)
    exact ⟨cC, iS, fun r hr => by cases hr; exact ⟨h1, h2, h3, fun _ => h4⟩⟩
  | 20 =>
    obtain ⟨cC, iS, h1, h2, h3, h4⟩ := kn_cls (C := RJ9) (T := TJ9) (N := 4) hta in_J9 q359 tyJ9_ok (by decide +kernel)
    exact ⟨cC, iS, fun r hr => by cases hr; exact ⟨h1, h2, h3, fun _ => h4⟩⟩
  | 21 =>
    obtain ⟨c, t, h1, -⟩ := Cond.castable_spec (hts _ q2364)
    obtain ⟨i, hi⟩ := ord_slot hta hg
    exact ⟨c, fun _ => i, fun r hr => by cases hr; exact ⟨h1, fun j _ => hi, fun a b ha hb hab => by exfalso; have ha : a < 1 := ha; have hb : b < 1 := hb; omega, fun h => absurd h (by decide)⟩⟩
  | 22 =>
    obtain ⟨c, t, h1, -⟩ := Cond.castable_spec (hts _ q2386)
    obtain ⟨i, hi⟩ := ord_slot hta hg
    exact ⟨c, fun _ => i, fun r hr => by cases hr; exact ⟨h1, fun j _ => hi, fun a b ha hb hab => by exfalso; have ha : a < 1 := ha; have hb : b < 1 := hb; omega, fun h => absurd h (by decide)⟩⟩
  | k + 23 => exact ⟨0, fun _ => 0, fun r hr => by simp [ckl] at hr⟩
/-- an array's class -/
def afact (s : State) (k : Nat) (cA : ClassId) : Prop := ∀ ty : FieldType, atl[k]? = some ty → ArrOfT s cA ty ∧ va_RA s cA ty
theorem af_of {s : State} {args : Array Value} {ty : FieldType} (h : (Cond.arrayClass ty).before args s = true) (hty : ∀ C, ty ≠ .object C) : ∃ c, ArrOfT s c ty ∧ va_RA s c ty := by
  obtain ⟨c, k, comp, h1, h2, h3⟩ := Cond.arrayClass_spec h
  refine ⟨c, fun n z => ⟨(fun k h => by cases h), k, h2, comp, h3⟩, ?_⟩
  cases ty with
  | object C => exact absurd rfl (hty C)
  | _ => exact h1
theorem af_ob {s : State} {args : Array Value} {C : String} (h : (Cond.arrayOver (.object C)).before args s = true) : ∃ c, ArrOfT s c (.object C) ∧ va_RA s c (.object C) := by
  obtain ⟨comp, c, k, h1, -, h2, h3, h4⟩ := Cond.arrayOver_spec h
  exact ⟨c, fun n z => ⟨(fun k h => by cases h), k, h2, comp, h3⟩, k, comp, h2, h3, h1, h4⟩
theorem afacts (hts : ∀ w ∈ lw_tbl, w.before #[Value.ref b] s = true) : ∀ k, ∃ cA, afact s k cA := by
  intro k
  match k with
  | 0 =>
    obtain ⟨c, h⟩ := af_of (hts _ (lw_all_tbl q191)) (fun C h => by cases h)
    exact ⟨c, fun ty hty => by cases hty; exact h⟩
  | 1 =>
    obtain ⟨c, h⟩ := af_of (hts _ (lw_all_tbl q927)) (fun C h => by cases h)
    exact ⟨c, fun ty hty => by cases hty; exact h⟩
  | 2 =>
    obtain ⟨c, h⟩ := af_of (hts _ (lw_all_tbl q259)) (fun C h => by cases h)
    exact ⟨c, fun ty hty => by cases hty; exact h⟩
  | 3 =>
    obtain ⟨c, h⟩ := af_ob (hts _ q155)
    exact ⟨c, fun ty hty => by cases hty; exact h⟩
  | 4 =>
    obtain ⟨c, h⟩ := af_ob (hts _ q125)
    exact ⟨c, fun ty hty => by cases hty; exact h⟩
  | 5 =>
    obtain ⟨c, h⟩ := af_ob (hts _ q133)
    exact ⟨c, fun ty hty => by cases hty; exact h⟩
  | 6 =>
    obtain ⟨c, h⟩ := af_ob (hts _ q995)
    exact ⟨c, fun ty hty => by cases hty; exact h⟩
  | 7 =>
    obtain ⟨c, h⟩ := af_ob (hts _ q272)
    exact ⟨c, fun ty hty => by cases hty; exact h⟩
  | k + 8 => exact ⟨0, fun ty hty => by simp [atl] at hty⟩
/-- a castable pair -/
theorem ct_of {args : Array Value} {s : State} {A B : String} {a : ClassId} (h : (Cond.castable A B).before args s = true) (ha : s.vm.findClass A = some a) : ∃ t, s.vm.findClass B = some t ∧ s.vm.assignable a t = true ∧ ∃ k9 : Class, s.vm.classes[a]? = some k9 := by
  obtain ⟨c, t, h1, h2, h3⟩ := Cond.castable_spec h
  cases ha.symm.trans h1
  obtain ⟨k, hk, -⟩ := Vm.findClass_spec h1
  exact ⟨t, h2, h3, k, hk⟩
theorem ct_self {s : State} {A : String} {a : ClassId} (ha : s.vm.findClass A = some a) : ∃ t, s.vm.findClass A = some t ∧ s.vm.assignable a t = true ∧ ∃ k9 : Class, s.vm.classes[a]? = some k9 := by
  obtain ⟨k, hk, -⟩ := Vm.findClass_spec ha
  exact ⟨a, ha, assign_self _ _, k, hk⟩
/-- the classes of the abstract machine's objects, chosen -/
noncomputable def dOf (s : State) (cK cS : ClassId) (kc : Nat → ClassId) (ks : Nat → Nat → Nat) (ac : Nat → ClassId) : DE := (fun k => if k < 23 then kc k else if k = 99 then cK else if k = 108 then cS else ac (k - 100), ks)
theorem kn_start (hts : ∀ w ∈ lw_tbl, w.before #[Value.ref b] s = true) (hg : Gv s b) {cK cS : ClassId} (hcK : ∃ t, s.vm.findClass "ChantRules$Test" = some t ∧ s.vm.assignable cK t = true ∧ ∃ k9 : Class, s.vm.classes[cK]? = some k9) (hcS : ArrOfT s cS .int) : ∃ D : DE, Kn D s ∧ D.1 99 = cK ∧ D.1 108 = cS := by
  obtain ⟨kc, h1⟩ := Classical.axiomOfChoice (kfacts hts hg)
  obtain ⟨ks, hk⟩ := Classical.axiomOfChoice h1
  obtain ⟨ac, ha⟩ := Classical.axiomOfChoice (afacts hts)
  have f : ∀ (k : Nat) (r : vw_C), ckl[k]? = some r → s.vm.findClass r.1 = some (kc k) := fun k r hr => (hk k r hr).1
  have g : ∀ k : Nat, k < 23 → (dOf s cK cS kc ks ac).1 k = kc k := fun k h => if_pos h
  have ga : ∀ k : Nat, k < 8 → (dOf s cK cS kc ks ac).1 (100 + k) = ac k := fun k h => by
    show (if 100 + k < 23 then kc (100 + k) else if 100 + k = 99 then cK else if 100 + k = 108 then cS else ac (100 + k - 100)) = _
    rw [if_neg (by omega), if_neg (by omega), if_neg (by omega)]
    congr 1
    omega
  have fa : ∀ (k : Nat) (ty : FieldType), atl[k]? = some ty → ArrOfT s (ac k) ty ∧ va_RA s (ac k) ty := fun k ty h => ha k ty h
  have lt : ∀ (k : Nat) (r : vw_C), ckl[k]? = some r → k < 23 := fun k r hr => (List.getElem?_eq_some_iff.mp hr).1
  have lta : ∀ (k : Nat) (ty : FieldType), atl[k]? = some ty → k < 8 := fun k ty hr => (List.getElem?_eq_some_iff.mp hr).1
  refine ⟨dOf s cK cS kc ks ac, ⟨fun k r hr => ?_, fun k r hr h21 => ?_, fun k ty hty => ?_, fun q hq => ?_, fun q hq => ?_, ?_⟩, rfl, rfl⟩
  · rw [g k (lt k r hr)]
    exact ⟨(hk k r hr).1, (hk k r hr).2.1, (hk k r hr).2.2.1⟩
  · rw [g k (lt k r hr)]
    exact (hk k r hr).2.2.2 h21
  · rw [ga k (lta k ty hty)]
    exact fa k ty hty
  · simp only [ctab, List.mem_cons, List.not_mem_nil, or_false] at hq
    rcases hq with rfl | rfl | rfl | rfl | rfl | rfl | rfl | rfl | rfl | rfl | rfl | rfl | rfl | rfl | rfl | rfl | rfl | rfl | rfl | rfl | rfl | rfl
    · exact ct_of (hts _ q287) (f 10 _ rfl)
    · exact ct_of (hts _ q293) (f 11 _ rfl)
    · exact ct_of (hts _ q381) (f 20 _ rfl)
    · exact ct_self (A := "ChantRules$Refused") (f 9 _ rfl)
    · exact ct_self (A := "ChantRules$Wrong") (f 6 _ rfl)
    · exact ct_of (hts _ q979) (f 19 _ rfl)
    · exact ct_of (hts _ q990) (f 18 _ rfl)
    · exact ct_of (hts _ q2386) (f 22 _ rfl)
    · exact ct_of (hts _ q2375) (f 10 _ rfl)
    · exact ct_of (hts _ q2376) (f 11 _ rfl)
    · exact ct_of (hts _ q2367) (f 1 _ rfl)
    · exact ct_self (A := "ChantRules$Choir") (f 1 _ rfl)
    · exact ct_self (A := "ChantRules$Rule") (f 2 _ rfl)
    · exact ct_self (A := "ChantRules$Command") (f 7 _ rfl)
    · exact ct_self (A := "ChantRules$Breathed") (f 10 _ rfl)
    · exact ct_self (A := "ChantRules$Heard") (f 11 _ rfl)
    · exact ct_self (A := "ChantRules$Way") (f 12 _ rfl)
    · exact ct_self (A := "java/lang/String") (f 19 _ rfl)
    · exact hcK
    · exact ct_self (A := "[B") (fa 2 _ rfl).2
    · obtain ⟨kA, comp, -, -, -, h4⟩ := (fa 3 _ rfl).2
      exact ct_self (A := "[Ljava/lang/Object;") h4
    · obtain ⟨kA, comp, -, -, -, h4⟩ := (fa 7 _ rfl).2
      exact ct_self (A := "[LChantRules$Sound;") h4
  · simp only [ntab, List.mem_cons, List.not_mem_nil, or_false] at hq
    rcases hq with rfl | rfl | rfl
    · exact ⟨kc 11, f 11 _ rfl, not_cast (hg.at (c := .not (.castable "ChantRules$Breathed" "ChantRules$Heard")) (by decide +kernel)) (f 10 _ rfl) (f 11 _ rfl)⟩
    · exact ⟨kc 10, f 10 _ rfl, not_cast (hg.at (c := .not (.castable "ChantRules$Heard" "ChantRules$Breathed")) (by decide +kernel)) (f 11 _ rfl) (f 10 _ rfl)⟩
    · exact ⟨kc 6, f 6 _ rfl, not_cast (hg.at (c := .not (.castable "ChantRules$Refused" "ChantRules$Wrong")) (by decide +kernel)) (f 9 _ rfl) (f 6 _ rfl)⟩
  · exact hcS
/-- the constants' values -/
noncomputable def eOf (s : State) (b : Nat) : Nat → Value := fun i => if 200 ≤ i then ((s.heap[b]?).bind (fun z => z.slots[i - 200]?)).getD .null else match i with
  | 0 => ((Term.static "ChantRules$Sound" "$VALUES" "[LChantRules$Sound;").eval #[Value.ref b] s none [] s).getD .null
  | 1 => ((Term.static "ChantRules$Sound" "A" "LChantRules$Sound;").eval #[Value.ref b] s none [] s).getD .null
  | 2 => ((Term.static "ChantRules$Sound" "B" "LChantRules$Sound;").eval #[Value.ref b] s none [] s).getD .null
  | 3 => ((Term.static "ChantRules$Sound" "C" "LChantRules$Sound;").eval #[Value.ref b] s none [] s).getD .null
  | 4 => ((Term.static "ChantRules$Sound" "D" "LChantRules$Sound;").eval #[Value.ref b] s none [] s).getD .null
  | 5 => ((Term.static "ChantRules$Sound" "NO_SOUND" "LChantRules$Sound;").eval #[Value.ref b] s none [] s).getD .null
  | 6 => ((Term.static "java/lang/Integer" "DigitOnes" "[B").eval #[Value.ref b] s none [] s).getD .null
  | 7 => ((Term.static "java/lang/Integer" "DigitTens" "[B").eval #[Value.ref b] s none [] s).getD .null
  | 8 => ((Term.static "java/lang/String" "COMPACT_STRINGS" "Z").eval #[Value.ref b] s none [] s).getD .null
  | 9 => ((Term.static "java/lang/StringUTF16" "$assertionsDisabled" "Z").eval #[Value.ref b] s none [] s).getD .null
  | 10 => ((Term.static "java/lang/StringUTF16" "HI_BYTE_SHIFT" "I").eval #[Value.ref b] s none [] s).getD .null
  | 11 => ((Term.static "java/lang/StringUTF16" "LO_BYTE_SHIFT" "I").eval #[Value.ref b] s none [] s).getD .null
  | 12 => ((Term.static "java/lang/Throwable" "SUPPRESSED_SENTINEL" "Ljava/util/List;").eval #[Value.ref b] s none [] s).getD .null
  | 13 => ((Term.static "java/lang/Throwable" "UNASSIGNED_STACK" "[Ljava/lang/StackTraceElement;").eval #[Value.ref b] s none [] s).getD .null
  | 14 => ((Term.static "java/util/ArrayList" "DEFAULTCAPACITY_EMPTY_ELEMENTDATA" "[Ljava/lang/Object;").eval #[Value.ref b] s none [] s).getD .null
  | 15 => ((Term.static "java/util/ArrayList" "EMPTY_ELEMENTDATA" "[Ljava/lang/Object;").eval #[Value.ref b] s none [] s).getD .null
  | 16 => ((Term.static "jdk/internal/util/Preconditions" "SIOOBE_FORMATTER" "Ljava/util/function/BiFunction;").eval #[Value.ref b] s none [] s).getD .null
  | 100 => ((Term.string "ChantRules" 36).eval #[Value.ref b] s none [] s).getD .null
  | 101 => ((Term.string "ChantRules$Choir" 151).eval #[Value.ref b] s none [] s).getD .null
  | 102 => ((Term.string "ChantRules$Reader" 94).eval #[Value.ref b] s none [] s).getD .null
  | 103 => ((Term.string "ChantRules$Rule" 141).eval #[Value.ref b] s none [] s).getD .null
  | 104 => ((Term.string "ChantRules$Rule" 143).eval #[Value.ref b] s none [] s).getD .null
  | 105 => ((Term.string "ChantRules$Rule" 152).eval #[Value.ref b] s none [] s).getD .null
  | 106 => ((Term.string "ChantRules$Rule" 154).eval #[Value.ref b] s none [] s).getD .null
  | 17 => .ref b
  | 18 => .int (Int32.ofNat (((s.heap[b]?).map (fun z => z.slots.size)).getD 0))
  | _ => .null
theorem ev_0 (hg : Gv s b) : (Term.static "ChantRules$Sound" "$VALUES" "[LChantRules$Sound;").eval #[Value.ref b] s none [] s = some (eOf s b 0) := by
  obtain ⟨v, h, -⟩ := Cond.isRef_spec (hg.at (c := .isRef (.static "ChantRules$Sound" "$VALUES" "[LChantRules$Sound;")) (by decide +kernel))
  show _ = some (((Term.static "ChantRules$Sound" "$VALUES" "[LChantRules$Sound;").eval #[Value.ref b] s none [] s).getD .null)
  rw [show (Term.static "ChantRules$Sound" "$VALUES" "[LChantRules$Sound;").eval #[Value.ref b] s none [] s = _ from h]
  rfl
theorem ev_1 (hg : Gv s b) : (Term.static "ChantRules$Sound" "A" "LChantRules$Sound;").eval #[Value.ref b] s none [] s = some (eOf s b 1) := by
  obtain ⟨a, c9, cell, k9, h, -⟩ := Cond.exactly_spec (hg.at (c := .exactly (.static "ChantRules$Sound" "A" "LChantRules$Sound;") "ChantRules$Sound") (by decide +kernel))
  show _ = some (((Term.static "ChantRules$Sound" "A" "LChantRules$Sound;").eval #[Value.ref b] s none [] s).getD .null)
  rw [show (Term.static "ChantRules$Sound" "A" "LChantRules$Sound;").eval #[Value.ref b] s none [] s = _ from h]
  rfl
theorem ev_2 (hg : Gv s b) : (Term.static "ChantRules$Sound" "B" "LChantRules$Sound;").eval #[Value.ref b] s none [] s = some (eOf s b 2) := by
  obtain ⟨a, c9, cell, k9, h, -⟩ := Cond.exactly_spec (hg.at (c := .exactly (.static "ChantRules$Sound" "B" "LChantRules$Sound;") "ChantRules$Sound") (by decide +kernel))
  show _ = some (((Term.static "ChantRules$Sound" "B" "LChantRules$Sound;").eval #[Value.ref b] s none [] s).getD .null)
  rw [show (Term.static "ChantRules$Sound" "B" "LChantRules$Sound;").eval #[Value.ref b] s none [] s = _ from h]
  rfl
theorem ev_3 (hg : Gv s b) : (Term.static "ChantRules$Sound" "C" "LChantRules$Sound;").eval #[Value.ref b] s none [] s = some (eOf s b 3) := by
  obtain ⟨a, c9, cell, k9, h, -⟩ := Cond.exactly_spec (hg.at (c := .exactly (.static "ChantRules$Sound" "C" "LChantRules$Sound;") "ChantRules$Sound") (by decide +kernel))
  show _ = some (((Term.static "ChantRules$Sound" "C" "LChantRules$Sound;").eval #[Value.ref b] s none [] s).getD .null)
  rw [show (Term.static "ChantRules$Sound" "C" "LChantRules$Sound;").eval #[Value.ref b] s none [] s = _ from h]
  rfl
theorem ev_4 (hg : Gv s b) : (Term.static "ChantRules$Sound" "D" "LChantRules$Sound;").eval #[Value.ref b] s none [] s = some (eOf s b 4) := by
  obtain ⟨a, c9, cell, k9, h, -⟩ := Cond.exactly_spec (hg.at (c := .exactly (.static "ChantRules$Sound" "D" "LChantRules$Sound;") "ChantRules$Sound") (by decide +kernel))
  show _ = some (((Term.static "ChantRules$Sound" "D" "LChantRules$Sound;").eval #[Value.ref b] s none [] s).getD .null)
  rw [show (Term.static "ChantRules$Sound" "D" "LChantRules$Sound;").eval #[Value.ref b] s none [] s = _ from h]
  rfl
theorem ev_5 (hg : Gv s b) : (Term.static "ChantRules$Sound" "NO_SOUND" "LChantRules$Sound;").eval #[Value.ref b] s none [] s = some (eOf s b 5) := by
  obtain ⟨a, c9, cell, k9, h, -⟩ := Cond.exactly_spec (hg.at (c := .exactly (.static "ChantRules$Sound" "NO_SOUND" "LChantRules$Sound;") "ChantRules$Sound$1") (by decide +kernel))
  show _ = some (((Term.static "ChantRules$Sound" "NO_SOUND" "LChantRules$Sound;").eval #[Value.ref b] s none [] s).getD .null)
  rw [show (Term.static "ChantRules$Sound" "NO_SOUND" "LChantRules$Sound;").eval #[Value.ref b] s none [] s = _ from h]
  rfl
theorem ev_6 (hg : Gv s b) : (Term.static "java/lang/Integer" "DigitOnes" "[B").eval #[Value.ref b] s none [] s = some (eOf s b 6) := by
  obtain ⟨v, h, -⟩ := Cond.isRef_spec (hg.at (c := .isRef (.static "java/lang/Integer" "DigitOnes" "[B")) (by decide +kernel))
  show _ = some (((Term.static "java/lang/Integer" "DigitOnes" "[B").eval #[Value.ref b] s none [] s).getD .null)
  rw [show (Term.static "java/lang/Integer" "DigitOnes" "[B").eval #[Value.ref b] s none [] s = _ from h]
  rfl
theorem ev_7 (hg : Gv s b) : (Term.static "java/lang/Integer" "DigitTens" "[B").eval #[Value.ref b] s none [] s = some (eOf s b 7) := by
  obtain ⟨v, h, -⟩ := Cond.isRef_spec (hg.at (c := .isRef (.static "java/lang/Integer" "DigitTens" "[B")) (by decide +kernel))
  show _ = some (((Term.static "java/lang/Integer" "DigitTens" "[B").eval #[Value.ref b] s none [] s).getD .null)
  rw [show (Term.static "java/lang/Integer" "DigitTens" "[B").eval #[Value.ref b] s none [] s = _ from h]
  rfl
theorem ev_8 (hg : Gv s b) : (Term.static "java/lang/String" "COMPACT_STRINGS" "Z").eval #[Value.ref b] s none [] s = some (eOf s b 8) := by
  have h := va_eqt (hg.at (c := .eq (.static "java/lang/String" "COMPACT_STRINGS" "Z") (.int 1)) (by decide +kernel))
  show _ = some (((Term.static "java/lang/String" "COMPACT_STRINGS" "Z").eval #[Value.ref b] s none [] s).getD .null)
  rw [show (Term.static "java/lang/String" "COMPACT_STRINGS" "Z").eval #[Value.ref b] s none [] s = _ from h]
  rfl
theorem ev_9 (hg : Gv s b) : (Term.static "java/lang/StringUTF16" "$assertionsDisabled" "Z").eval #[Value.ref b] s none [] s = some (eOf s b 9) := by
  have h := va_eqt (hg.at (c := .eq (.static "java/lang/StringUTF16" "$assertionsDisabled" "Z") (.int 1)) (by decide +kernel))
  show _ = some (((Term.static "java/lang/StringUTF16" "$assertionsDisabled" "Z").eval #[Value.ref b] s none [] s).getD .null)
  rw [show (Term.static "java/lang/StringUTF16" "$assertionsDisabled" "Z").eval #[Value.ref b] s none [] s = _ from h]
  rfl
theorem ev_10 (hg : Gv s b) : (Term.static "java/lang/StringUTF16" "HI_BYTE_SHIFT" "I").eval #[Value.ref b] s none [] s = some (eOf s b 10) := by
  have h := va_eqt (hg.at (c := .eq (.static "java/lang/StringUTF16" "HI_BYTE_SHIFT" "I") (.int 0)) (by decide +kernel))
  show _ = some (((Term.static "java/lang/StringUTF16" "HI_BYTE_SHIFT" "I").eval #[Value.ref b] s none [] s).getD .null)
  rw [show (Term.static "java/lang/StringUTF16" "HI_BYTE_SHIFT" "I").eval #[Value.ref b] s none [] s = _ from h]
  rfl
theorem ev_11 (hg : Gv s b) : (Term.static "java/lang/StringUTF16" "LO_BYTE_SHIFT" "I").eval #[Value.ref b] s none [] s = some (eOf s b 11) := by
  have h := va_eqt (hg.at (c := .eq (.static "java/lang/StringUTF16" "LO_BYTE_SHIFT" "I") (.int 8)) (by decide +kernel))
  show _ = some (((Term.static "java/lang/StringUTF16" "LO_BYTE_SHIFT" "I").eval #[Value.ref b] s none [] s).getD .null)
  rw [show (Term.static "java/lang/StringUTF16" "LO_BYTE_SHIFT" "I").eval #[Value.ref b] s none [] s = _ from h]
  rfl
theorem ev_12 (hg : Gv s b) : (Term.static "java/lang/Throwable" "SUPPRESSED_SENTINEL" "Ljava/util/List;").eval #[Value.ref b] s none [] s = some (eOf s b 12) := by
  obtain ⟨v, h, -⟩ := Cond.isRef_spec (hg.at (c := .isRef (.static "java/lang/Throwable" "SUPPRESSED_SENTINEL" "Ljava/util/List;")) (by decide +kernel))
  show _ = some (((Term.static "java/lang/Throwable" "SUPPRESSED_SENTINEL" "Ljava/util/List;").eval #[Value.ref b] s none [] s).getD .null)
  rw [show (Term.static "java/lang/Throwable" "SUPPRESSED_SENTINEL" "Ljava/util/List;").eval #[Value.ref b] s none [] s = _ from h]
  rfl
theorem ev_13 (hg : Gv s b) : (Term.static "java/lang/Throwable" "UNASSIGNED_STACK" "[Ljava/lang/StackTraceElement;").eval #[Value.ref b] s none [] s = some (eOf s b 13) := by
  obtain ⟨v, h, -⟩ := Cond.isRef_spec (hg.at (c := .isRef (.static "java/lang/Throwable" "UNASSIGNED_STACK" "[Ljava/lang/StackTraceElement;")) (by decide +kernel))
  show _ = some (((Term.static "java/lang/Throwable" "UNASSIGNED_STACK" "[Ljava/lang/StackTraceElement;").eval #[Value.ref b] s none [] s).getD .null)
  rw [show (Term.static "java/lang/Throwable" "UNASSIGNED_STACK" "[Ljava/lang/StackTraceElement;").eval #[Value.ref b] s none [] s = _ from h]
  rfl
theorem ev_14 (hg : Gv s b) : (Term.static "java/util/ArrayList" "DEFAULTCAPACITY_EMPTY_ELEMENTDATA" "[Ljava/lang/Object;").eval #[Value.ref b] s none [] s = some (eOf s b 14) := by
  obtain ⟨v, h, -⟩ := Cond.isRef_spec (hg.at (c := .isRef (.static "java/util/ArrayList" "DEFAULTCAPACITY_EMPTY_ELEMENTDATA" "[Ljava/lang/Object;")) (by decide +kernel))
  show _ = some (((Term.static "java/util/ArrayList" "DEFAULTCAPACITY_EMPTY_ELEMENTDATA" "[Ljava/lang/Object;").eval #[Value.ref b] s none [] s).getD .null)
  rw [show (Term.static "java/util/ArrayList" "DEFAULTCAPACITY_EMPTY_ELEMENTDATA" "[Ljava/lang/Object;").eval #[Value.ref b] s none [] s = _ from h]
  rfl
theorem ev_15 (hg : Gv s b) : (Term.static "java/util/ArrayList" "EMPTY_ELEMENTDATA" "[Ljava/lang/Object;").eval #[Value.ref b] s none [] s = some (eOf s b 15) := by
  obtain ⟨v, h, -⟩ := Cond.isRef_spec (hg.at (c := .isRef (.static "java/util/ArrayList" "EMPTY_ELEMENTDATA" "[Ljava/lang/Object;")) (by decide +kernel))
  show _ = some (((Term.static "java/util/ArrayList" "EMPTY_ELEMENTDATA" "[Ljava/lang/Object;").eval #[Value.ref b] s none [] s).getD .null)
  rw [show (Term.static "java/util/ArrayList" "EMPTY_ELEMENTDATA" "[Ljava/lang/Object;").eval #[Value.ref b] s none [] s = _ from h]
  rfl
theorem ev_16 (hg : Gv s b) : (Term.static "jdk/internal/util/Preconditions" "SIOOBE_FORMATTER" "Ljava/util/function/BiFunction;").eval #[Value.ref b] s none [] s = some (eOf s b 16) := by
  obtain ⟨v, h, -⟩ := Cond.isRef_spec (hg.at (c := .isRef (.static "jdk/internal/util/Preconditions" "SIOOBE_FORMATTER" "Ljava/util/function/BiFunction;")) (by decide +kernel))
  show _ = some (((Term.static "jdk/internal/util/Preconditions" "SIOOBE_FORMATTER" "Ljava/util/function/BiFunction;").eval #[Value.ref b] s none [] s).getD .null)
  rw [show (Term.static "jdk/internal/util/Preconditions" "SIOOBE_FORMATTER" "Ljava/util/function/BiFunction;").eval #[Value.ref b] s none [] s = _ from h]
  rfl
theorem ev_100 (hg : Gv s b) : ∃ a, eOf s b 100 = .ref a ∧ (Term.string "ChantRules" 36).eval #[Value.ref b] s none [] s = some (.ref a) := by
  obtain ⟨a, c9, cell, k9, h, -⟩ := Cond.exactly_spec (hg.at (c := .exactly (.string "ChantRules" 36) "java/lang/String") (by decide +kernel))
  refine ⟨a, ?_, h⟩
  show ((Term.string "ChantRules" 36).eval #[Value.ref b] s none [] s).getD .null = _
  rw [show (Term.string "ChantRules" 36).eval #[Value.ref b] s none [] s = _ from h]
  rfl
theorem ev_101 (hg : Gv s b) : ∃ a, eOf s b 101 = .ref a ∧ (Term.string "ChantRules$Choir" 151).eval #[Value.ref b] s none [] s = some (.ref a) := by
  obtain ⟨a, c9, cell, k9, h, -⟩ := Cond.exactly_spec (hg.at (c := .exactly (.string "ChantRules$Choir" 151) "java/lang/String") (by decide +kernel))
  refine ⟨a, ?_, h⟩
  show ((Term.string "ChantRules$Choir" 151).eval #[Value.ref b] s none [] s).getD .null = _
  rw [show (Term.string "ChantRules$Choir" 151).eval #[Value.ref b] s none [] s = _ from h]
  rfl
theorem ev_102 (hg : Gv s b) : ∃ a, eOf s b 102 = .ref a ∧ (Term.string "ChantRules$Reader" 94).eval #[Value.ref b] s none [] s = some (.ref a) := by
  obtain ⟨a, c9, cell, k9, h, -⟩ := Cond.exactly_spec (hg.at (c := .exactly (.string "ChantRules$Reader" 94) "java/lang/String") (by decide +kernel))
  refine ⟨a, ?_, h⟩
  show ((Term.string "ChantRules$Reader" 94).eval #[Value.ref b] s none [] s).getD .null = _
  rw [show (Term.string "ChantRules$Reader" 94).eval #[Value.ref b] s none [] s = _ from h]
  rfl
theorem ev_103 (hg : Gv s b) : ∃ a, eOf s b 103 = .ref a ∧ (Term.string "ChantRules$Rule" 141).eval #[Value.ref b] s none [] s = some (.ref a) := by
  obtain ⟨a, c9, cell, k9, h, -⟩ := Cond.exactly_spec (hg.at (c := .exactly (.string "ChantRules$Rule" 141) "java/lang/String") (by decide +kernel))
  refine ⟨a, ?_, h⟩
  show ((Term.string "ChantRules$Rule" 141).eval #[Value.ref b] s none [] s).getD .null = _
  rw [show (Term.string "ChantRules$Rule" 141).eval #[Value.ref b] s none [] s = _ from h]
  rfl
theorem ev_104 (hg : Gv s b) : ∃ a, eOf s b 104 = .ref a ∧ (Term.string "ChantRules$Rule" 143).eval #[Value.ref b] s none [] s = some (.ref a) := by
  obtain ⟨a, c9, cell, k9, h, -⟩ := Cond.exactly_spec (hg.at (c := .exactly (.string "ChantRules$Rule" 143) "java/lang/String") (by decide +kernel))
  refine ⟨a, ?_, h⟩
  show ((Term.string "ChantRules$Rule" 143).eval #[Value.ref b] s none [] s).getD .null = _
  rw [show (Term.string "ChantRules$Rule" 143).eval #[Value.ref b] s none [] s = _ from h]
  rfl
theorem ev_105 (hg : Gv s b) : ∃ a, eOf s b 105 = .ref a ∧ (Term.string "ChantRules$Rule" 152).eval #[Value.ref b] s none [] s = some (.ref a) := by
  obtain ⟨a, c9, cell, k9, h, -⟩ := Cond.exactly_spec (hg.at (c := .exactly (.string "ChantRules$Rule" 152) "java/lang/String") (by decide +kernel))
  refine ⟨a, ?_, h⟩
  show ((Term.string "ChantRules$Rule" 152).eval #[Value.ref b] s none [] s).getD .null = _
  rw [show (Term.string "ChantRules$Rule" 152).eval #[Value.ref b] s none [] s = _ from h]
  rfl
theorem ev_106 (hg : Gv s b) : ∃ a, eOf s b 106 = .ref a ∧ (Term.string "ChantRules$Rule" 154).eval #[Value.ref b] s none [] s = some (.ref a) := by
  obtain ⟨a, c9, cell, k9, h, -⟩ := Cond.exactly_spec (hg.at (c := .exactly (.string "ChantRules$Rule" 154) "java/lang/String") (by decide +kernel))
  refine ⟨a, ?_, h⟩
  show ((Term.string "ChantRules$Rule" 154).eval #[Value.ref b] s none [] s).getD .null = _
  rw [show (Term.string "ChantRules$Rule" 154).eval #[Value.ref b] s none [] s = _ from h]
  rfl
theorem st_Z (hts : ∀ w ∈ lw_tbl, w.before #[Value.ref b] s = true) (hg : Gv s b) : ∀ (i : Nat) (q : String × String × String), sttab[i]? = some q → va_Z q.1 q.2.1 q.2.2 (eOf s b i) (fun a => s.heap.size ≤ a) s s.heap := by
  intro i q hq
  match i, hq with
  | 0, hq => cases hq; exact va_Zof (hts _ q265) (hts _ (lw_all_tbl q89)) (ev_0 hg) (fun a h => by omega)
  | 1, hq => cases hq; exact va_Zof (hts _ q1110) (hts _ (lw_all_tbl q89)) (ev_1 hg) (fun a h => by omega)
  | 2, hq => cases hq; exact va_Zof (hts _ q1112) (hts _ (lw_all_tbl q89)) (ev_2 hg) (fun a h => by omega)
  | 3, hq => cases hq; exact va_Zof (hts _ q1114) (hts _ (lw_all_tbl q89)) (ev_3 hg) (fun a h => by omega)
  | 4, hq => cases hq; exact va_Zof (hts _ q1116) (hts _ (lw_all_tbl q89)) (ev_4 hg) (fun a h => by omega)
  | 5, hq => cases hq; exact va_Zof (hts _ q1118) (hts _ (lw_all_tbl q89)) (ev_5 hg) (fun a h => by omega)
  | 6, hq => cases hq; exact va_Zof (hts _ q1737) (hts _ (lw_all_tbl q115)) (ev_6 hg) (fun a h => by omega)
  | 7, hq => cases hq; exact va_Zof (hts _ q1739) (hts _ (lw_all_tbl q115)) (ev_7 hg) (fun a h => by omega)
  | 8, hq => cases hq; exact va_Zof (hts _ q237) (hts _ (lw_all_tbl q86)) (ev_8 hg) (fun a h => by omega)
  | 9, hq => cases hq; exact va_Zof (hts _ q961) (hts _ (lw_all_tbl q87)) (ev_9 hg) (fun a h => by omega)
  | 10, hq => cases hq; exact va_Zof (hts _ q966) (hts _ (lw_all_tbl q87)) (ev_10 hg) (fun a h => by omega)
  | 11, hq => cases hq; exact va_Zof (hts _ q968) (hts _ (lw_all_tbl q87)) (ev_11 hg) (fun a h => by omega)
  | 12, hq => cases hq; exact va_Zof (hts _ q503) (hts _ (lw_all_tbl q96)) (ev_12 hg) (fun a h => by omega)
  | 13, hq => cases hq; exact va_Zof (hts _ q501) (hts _ (lw_all_tbl q96)) (ev_13 hg) (fun a h => by omega)
  | 14, hq => cases hq; exact va_Zof (hts _ q418) (hts _ (lw_all_tbl q82)) (ev_14 hg) (fun a h => by omega)
  | 15, hq => cases hq; exact va_Zof (hts _ q157) (hts _ (lw_all_tbl q82)) (ev_15 hg) (fun a h => by omega)
  | 16, hq => cases hq; exact va_Zof (hts _ q955) (hts _ (lw_all_tbl q102)) (ev_16 hg) (fun a h => by omega)
  | k + 17, hq => simp [sttab] at hq
theorem sr_R (hts : ∀ w ∈ lw_tbl, w.before #[Value.ref b] s = true) (hg : Gv s b) : ∀ (i : Nat) (q : String × Nat × String), srtab[i]? = some q → ∃ a, eOf s b (100 + i) = .ref a ∧ vk_R q.1 q.2.1 q.2.2 a s := by
  intro i q hq
  match i, hq with
  | 0, hq => cases hq; obtain ⟨a, h1, h2⟩ := ev_100 hg; exact ⟨a, h1, vk_R.of (hts _ q260) h2⟩
  | 1, hq => cases hq; obtain ⟨a, h1, h2⟩ := ev_101 hg; exact ⟨a, h1, vk_R.of (hts _ q1839) h2⟩
  | 2, hq => cases hq; obtain ⟨a, h1, h2⟩ := ev_102 hg; exact ⟨a, h1, vk_R.of (hts _ q1496) h2⟩
  | 3, hq => cases hq; obtain ⟨a, h1, h2⟩ := ev_103 hg; exact ⟨a, h1, vk_R.of (hts _ q1760) h2⟩
  | 4, hq => cases hq; obtain ⟨a, h1, h2⟩ := ev_104 hg; exact ⟨a, h1, vk_R.of (hts _ q1761) h2⟩
  | 5, hq => cases hq; obtain ⟨a, h1, h2⟩ := ev_105 hg; exact ⟨a, h1, vk_R.of (hts _ q1793) h2⟩
  | 6, hq => cases hq; obtain ⟨a, h1, h2⟩ := ev_106 hg; exact ⟨a, h1, vk_R.of (hts _ q1794) h2⟩
  | k + 7, hq => simp [srtab] at hq
theorem eOf_scr {scr : Cell} (hc : s.heap[b]? = some scr) (hn : scr.slots.size < 2147483648) : scrE (eOf s b) b = some (300, scr.slots.toList) := by
  have e18 : eOf s b 18 = .int (Int32.ofNat scr.slots.size) := by
    show Value.int (Int32.ofNat (((s.heap[b]?).map (fun z => z.slots.size)).getD 0)) = _
    rw [hc]
    rfl
  have eN : (Int32.ofNat scr.slots.size).toNatClampNeg = scr.slots.size := by
    show (Int32.ofNat scr.slots.size).toInt.toNat = _
    rw [Int32.toInt_ofNat_of_lt (by simpa using hn)]
    omega
  have ej : ∀ j : Nat, eOf s b (200 + j) = (scr.slots[j]?).getD .null := fun j => by
    show (if 200 ≤ 200 + j then ((s.heap[b]?).bind (fun z => z.slots[200 + j - 200]?)).getD .null else _) = _
    rw [if_pos (by omega), hc, show 200 + j - 200 = j by omega]
    rfl
  unfold scrE
  rw [if_pos (show eOf s b 17 = .ref b from rfl), e18]
  show some (300, (List.range (Int32.ofNat scr.slots.size).toNatClampNeg).map (fun j => eOf s b (200 + j))) = _
  rw [eN]
  congr 2
  apply List.ext_getElem?
  intro j
  rw [List.getElem?_map, show scr.slots.toList[j]? = scr.slots[j]? from Array.getElem?_toList]
  by_cases h : j < scr.slots.size
  · rw [List.getElem?_range h, Array.getElem?_eq_getElem h]
    show some (eOf s b (200 + j)) = _
    rw [ej, Array.getElem?_eq_getElem h]
    rfl
  · rw [Array.getElem?_eq_none (by omega), List.getElem?_eq_none (by simpa using h)]
    rfl
theorem scr_start {scr : Cell} (hc : s.heap[b]? = some scr) (hof : s.isArrayOf scr .int) (hk : scr.vm ≠ .unknown) (hn : scr.slots.size < 2147483648) : SCR s (eOf s b) := by
  intro a c vs h
  have hab : b = a := by
    unfold scrE at h
    split at h
    · next e =>
      have e' : Value.ref b = Value.ref a := e
      cases e'
      rfl
    · cases h
  subst hab
  rw [eOf_scr hc hn] at h
  cases h
  exact ⟨scr, hc, hof, hk, by simp⟩
/-- WHAT IS KNOWN AT THE START -/
theorem ev_start {l : Launch} (hfl : l.flags = flags0) (hts : ∀ w ∈ lw_tbl, w.before #[Value.ref b] s = true) (hg : Gv s b) {scr : Cell} (hc : s.heap[b]? = some scr) (hof : s.isArrayOf scr .int) (hk : scr.vm ≠ .unknown) (hn : scr.slots.size < 2147483648) : ∃ D : DE, EV l D s (eOf s b) := by
  obtain ⟨cS, hcS, -⟩ := af_of (hts _ (lw_all_tbl q191)) (fun C h => by cases h)
  have hsite : siteWord_1_1.before #[Value.ref b] s = true := hg.at (c := siteWord_1_1) (by decide +kernel)
  rw [site_eq] at hsite
  obtain ⟨cK, one, hat⟩ := Cond.lambdaSite_spec hsite
  have hdL : va_Nw (.declares ⟨"ChantRules$Test", "is", "(LChantRules$Arc;)Z"⟩) s := va_Nw.of rfl (hts _ q1286)
  have hfL : va_Nw (.interfaceMethod "ChantRules$Test" "ChantRules$Test" "is" "(LChantRules$Arc;)Z") s := va_Nw.of rfl (hts _ q1285)
  have hlam := lamOk_of hat hdL hfL
  obtain ⟨m', kS, cfS, i0, p0, lk, hm', hkS, hcfS, hshape, -, hfind, hmade, hcan, hlk⟩ := State.lambdaAt?_spec hat
  obtain ⟨i2, hi2, hasg, hway⟩ := State.lambdaCallable_spec hcan
  have hk9 : ∃ k9 : Class, s.vm.classes[cK]? = some k9 := by
    obtain ⟨_, k9, _, _, _, _, _, _, _, _, _, _, _, _, z, _⟩ := Lambda.isMade_spec hmade
    exact ⟨k9, z⟩
  obtain ⟨D, hKn, h99, -⟩ := kn_start hts hg (cK := cK) ⟨i2, hi2, hasg, hk9⟩ hcS
  refine ⟨D, ⟨hKn, fun w hw ho => va_Nw.of ho (hts w hw), st_Z hts hg, sr_R hts hg, fun C hC => va_AO.of (hts _ hC), hfl, ?_, scr_start hc hof hk hn⟩⟩
  refine ⟨sp_lam ⟨one, by rw [h99]; exact hat⟩, sp_acopy, sp_clone (by decide) (by decide) rfl q1149 q268 q269 q1150 (va_Nw.of rfl (hts _ q1151)) kn_byte, sp_clone (by decide) (by decide) rfl q267 q268 q269 q270 (va_Nw.of rfl (hts _ q271)) kn_snd, sp_cause (va_Nw.of rfl (hts _ q594)), sp_sign, sp_call (by rw [h99]; exact hlam)⟩
end ST
