/-! THE START (3): the constants -/
set_option maxRecDepth 100000
section ST3
variable {D : DE} {s : State} {b : Nat}
theorem dig_1 : (flN.drop 53).take 100 = (List.range 100).map (fun k => Cond.eq (.elem (.static "java/lang/Integer" "DigitOnes" "[B") (.int (Int32.ofNat k))) (.int (iI (48 + ((k % 10 : Nat) : Int))))) := by decide +kernel
theorem dig_2 : (flN.drop 156).take 100 = (List.range 100).map (fun k => Cond.eq (.elem (.static "java/lang/Integer" "DigitTens" "[B") (.int (Int32.ofNat k))) (.int (iI (48 + ((k / 10 : Nat) : Int))))) := by decide +kernel
theorem rfv_of {T : Term} {v : Value} (hg : Gv s b) (h : Cond.isRef T ∈ flN) (he : T.eval #[.ref b] s none [] s = some v) : rfv v := by
  obtain ⟨v', h1, h2⟩ := Cond.isRef_spec (hg.at h)
  have e : v' = v := Option.some.inj (h1.symm.trans he)
  subst e
  exact isRf_of h2
theorem ref_of {i a : Nat} {T : Term} (h : T.eval #[.ref b] s none [] s = some (.ref a)) (he : T.eval #[.ref b] s none [] s = some (eOf s b i)) : eOf s b i = .ref a := Option.some.inj (he.symm.trans h)
theorem adr_of {i a : Nat} (h : eOf s b i = .ref a) : eOf s b i = .ref (adr (eOf s b i)) := by rw [h]; rfl
theorem adr_eq {i a : Nat} (h : eOf s b i = .ref a) : adr (eOf s b i) = a := by rw [h]; rfl
theorem c_e8 (hg : Gv s b) : eOf s b 8 = .int (iI 1) := by
  have h := va_eqt (hg.at (c := .eq (.static "java/lang/String" "COMPACT_STRINGS" "Z") (.int 1)) (by decide +kernel))
  have e := Option.some.inj ((ev_8 hg).symm.trans h)
  rw [e]
  rfl
theorem c_s0 (K : Kn D s) (hg : Gv s b) : eOf s b 1 = .ref (adr (eOf s b 1)) ∧ sg0 D s (adr (eOf s b 1)) = some (221, [.int (iI 0)]) := by
  obtain ⟨a, h1, h2⟩ := snd_at (D := D) (k := 221) (v := 0) hg (T := .static "ChantRules$Sound" "A" "LChantRules$Sound;") (f_21 K) (k_21 K) (by decide) rfl ((K.1 21 _ rfl).2.1 0 (by decide)) (by decide +kernel) (by decide +kernel)
  have e := ref_of h1 (ev_1 hg)
  refine ⟨adr_of e, ?_⟩
  rw [adr_eq e, h2]
  rfl
theorem c_s1 (K : Kn D s) (hg : Gv s b) : eOf s b 2 = .ref (adr (eOf s b 2)) ∧ sg0 D s (adr (eOf s b 2)) = some (221, [.int (iI 1)]) := by
  obtain ⟨a, h1, h2⟩ := snd_at (D := D) (k := 221) (v := 1) hg (T := .static "ChantRules$Sound" "B" "LChantRules$Sound;") (f_21 K) (k_21 K) (by decide) rfl ((K.1 21 _ rfl).2.1 0 (by decide)) (by decide +kernel) (by decide +kernel)
  have e := ref_of h1 (ev_2 hg)
  refine ⟨adr_of e, ?_⟩
  rw [adr_eq e, h2]
  rfl
theorem c_s2 (K : Kn D s) (hg : Gv s b) : eOf s b 3 = .ref (adr (eOf s b 3)) ∧ sg0 D s (adr (eOf s b 3)) = some (221, [.int (iI 2)]) := by
  obtain ⟨a, h1, h2⟩ := snd_at (D := D) (k := 221) (v := 2) hg (T := .static "ChantRules$Sound" "C" "LChantRules$Sound;") (f_21 K) (k_21 K) (by decide) rfl ((K.1 21 _ rfl).2.1 0 (by decide)) (by decide +kernel) (by decide +kernel)
  have e := ref_of h1 (ev_3 hg)
  refine ⟨adr_of e, ?_⟩
  rw [adr_eq e, h2]
  rfl
theorem c_s3 (K : Kn D s) (hg : Gv s b) : eOf s b 4 = .ref (adr (eOf s b 4)) ∧ sg0 D s (adr (eOf s b 4)) = some (221, [.int (iI 3)]) := by
  obtain ⟨a, h1, h2⟩ := snd_at (D := D) (k := 221) (v := 3) hg (T := .static "ChantRules$Sound" "D" "LChantRules$Sound;") (f_21 K) (k_21 K) (by decide) rfl ((K.1 21 _ rfl).2.1 0 (by decide)) (by decide +kernel) (by decide +kernel)
  have e := ref_of h1 (ev_4 hg)
  refine ⟨adr_of e, ?_⟩
  rw [adr_eq e, h2]
  rfl
theorem c_s4 (K : Kn D s) (hg : Gv s b) : eOf s b 5 = .ref (adr (eOf s b 5)) ∧ sg0 D s (adr (eOf s b 5)) = some (222, [.int (iI 4)]) := by
  obtain ⟨a, h1, h2⟩ := snd_at (D := D) (k := 222) (v := 4) hg (T := .static "ChantRules$Sound" "NO_SOUND" "LChantRules$Sound;") (f_22 K) k_22 (by decide) rfl ((K.1 22 _ rfl).2.1 0 (by decide)) (by decide +kernel) (by decide +kernel)
  have e := ref_of h1 (ev_5 hg)
  refine ⟨adr_of e, ?_⟩
  rw [adr_eq e, h2]
  rfl
theorem c_t0 (K : Kn D s) (hts : ∀ w ∈ lw_tbl, w.before #[Value.ref b] s = true) (hg : Gv s b) : eOf s b 100 = .ref (adr (eOf s b 100)) ∧ ∃ u z1 z2, sg0 D s (adr (eOf s b 100)) = some (219, [.ref u, .int (iI 0), z1, z2]) ∧ sg0 D s u = some (302, ia (txE 0).length (wordS (txE 0))) := by
  obtain ⟨a, u, z1, z2, h1, h2, h3⟩ := str_at K hts hg (T := .string "ChantRules" 36) (L := txE 0) (by decide +kernel) (by decide +kernel) (by decide +kernel) (by decide +kernel) (by decide +kernel) (by decide +kernel) (by decide)
  obtain ⟨a', e1, e2⟩ := ev_100 hg
  have ea : a' = a := by
    have e := Option.some.inj (e2.symm.trans h1)
    cases e
    rfl
  subst ea
  exact ⟨adr_of e1, u, z1, z2, by rw [adr_eq e1]; exact h2, h3⟩
theorem c_t1 (K : Kn D s) (hts : ∀ w ∈ lw_tbl, w.before #[Value.ref b] s = true) (hg : Gv s b) : eOf s b 101 = .ref (adr (eOf s b 101)) ∧ ∃ u z1 z2, sg0 D s (adr (eOf s b 101)) = some (219, [.ref u, .int (iI 0), z1, z2]) ∧ sg0 D s u = some (302, ia (txE 1).length (wordS (txE 1))) := by
  obtain ⟨a, u, z1, z2, h1, h2, h3⟩ := str_at K hts hg (T := .string "ChantRules$Choir" 151) (L := txE 1) (by decide +kernel) (by decide +kernel) (by decide +kernel) (by decide +kernel) (by decide +kernel) (by decide +kernel) (by decide)
  obtain ⟨a', e1, e2⟩ := ev_101 hg
  have ea : a' = a := by
    have e := Option.some.inj (e2.symm.trans h1)
    cases e
    rfl
  subst ea
  exact ⟨adr_of e1, u, z1, z2, by rw [adr_eq e1]; exact h2, h3⟩
theorem c_t2 (K : Kn D s) (hts : ∀ w ∈ lw_tbl, w.before #[Value.ref b] s = true) (hg : Gv s b) : eOf s b 102 = .ref (adr (eOf s b 102)) ∧ ∃ u z1 z2, sg0 D s (adr (eOf s b 102)) = some (219, [.ref u, .int (iI 0), z1, z2]) ∧ sg0 D s u = some (302, ia (txE 2).length (wordS (txE 2))) := by
  obtain ⟨a, u, z1, z2, h1, h2, h3⟩ := str_at K hts hg (T := .string "ChantRules$Reader" 94) (L := txE 2) (by decide +kernel) (by decide +kernel) (by decide +kernel) (by decide +kernel) (by decide +kernel) (by decide +kernel) (by decide)
  obtain ⟨a', e1, e2⟩ := ev_102 hg
  have ea : a' = a := by
    have e := Option.some.inj (e2.symm.trans h1)
    cases e
    rfl
  subst ea
  exact ⟨adr_of e1, u, z1, z2, by rw [adr_eq e1]; exact h2, h3⟩
theorem c_t3 (K : Kn D s) (hts : ∀ w ∈ lw_tbl, w.before #[Value.ref b] s = true) (hg : Gv s b) : eOf s b 103 = .ref (adr (eOf s b 103)) ∧ ∃ u z1 z2, sg0 D s (adr (eOf s b 103)) = some (219, [.ref u, .int (iI 0), z1, z2]) ∧ sg0 D s u = some (302, ia (txE 3).length (wordS (txE 3))) := by
  obtain ⟨a, u, z1, z2, h1, h2, h3⟩ := str_at K hts hg (T := .string "ChantRules$Rule" 141) (L := txE 3) (by decide +kernel) (by decide +kernel) (by decide +kernel) (by decide +kernel) (by decide +kernel) (by decide +kernel) (by decide)
  obtain ⟨a', e1, e2⟩ := ev_103 hg
  have ea : a' = a := by
    have e := Option.some.inj (e2.symm.trans h1)
    cases e
    rfl
  subst ea
  exact ⟨adr_of e1, u, z1, z2, by rw [adr_eq e1]; exact h2, h3⟩
theorem c_t4 (K : Kn D s) (hts : ∀ w ∈ lw_tbl, w.before #[Value.ref b] s = true) (hg : Gv s b) : eOf s b 104 = .ref (adr (eOf s b 104)) ∧ ∃ u z1 z2, sg0 D s (adr (eOf s b 104)) = some (219, [.ref u, .int (iI 0), z1, z2]) ∧ sg0 D s u = some (302, ia (txE 4).length (wordS (txE 4))) := by
  obtain ⟨a, u, z1, z2, h1, h2, h3⟩ := str_at K hts hg (T := .string "ChantRules$Rule" 143) (L := txE 4) (by decide +kernel) (by decide +kernel) (by decide +kernel) (by decide +kernel) (by decide +kernel) (by decide +kernel) (by decide)
  obtain ⟨a', e1, e2⟩ := ev_104 hg
  have ea : a' = a := by
    have e := Option.some.inj (e2.symm.trans h1)
    cases e
    rfl
  subst ea
  exact ⟨adr_of e1, u, z1, z2, by rw [adr_eq e1]; exact h2, h3⟩
theorem c_t5 (K : Kn D s) (hts : ∀ w ∈ lw_tbl, w.before #[Value.ref b] s = true) (hg : Gv s b) : eOf s b 105 = .ref (adr (eOf s b 105)) ∧ ∃ u z1 z2, sg0 D s (adr (eOf s b 105)) = some (219, [.ref u, .int (iI 0), z1, z2]) ∧ sg0 D s u = some (302, ia (txE 5).length (wordS (txE 5))) := by
  obtain ⟨a, u, z1, z2, h1, h2, h3⟩ := str_at K hts hg (T := .string "ChantRules$Rule" 152) (L := txE 5) (by decide +kernel) (by decide +kernel) (by decide +kernel) (by decide +kernel) (by decide +kernel) (by decide +kernel) (by decide)
  obtain ⟨a', e1, e2⟩ := ev_105 hg
  have ea : a' = a := by
    have e := Option.some.inj (e2.symm.trans h1)
    cases e
    rfl
  subst ea
  exact ⟨adr_of e1, u, z1, z2, by rw [adr_eq e1]; exact h2, h3⟩
theorem c_t6 (K : Kn D s) (hts : ∀ w ∈ lw_tbl, w.before #[Value.ref b] s = true) (hg : Gv s b) : eOf s b 106 = .ref (adr (eOf s b 106)) ∧ ∃ u z1 z2, sg0 D s (adr (eOf s b 106)) = some (219, [.ref u, .int (iI 0), z1, z2]) ∧ sg0 D s u = some (302, ia (txE 6).length (wordS (txE 6))) := by
  obtain ⟨a, u, z1, z2, h1, h2, h3⟩ := str_at K hts hg (T := .string "ChantRules$Rule" 154) (L := txE 6) (by decide +kernel) (by decide +kernel) (by decide +kernel) (by decide +kernel) (by decide +kernel) (by decide +kernel) (by decide)
  obtain ⟨a', e1, e2⟩ := ev_106 hg
  have ea : a' = a := by
    have e := Option.some.inj (e2.symm.trans h1)
    cases e
    rfl
  subst ea
  exact ⟨adr_of e1, u, z1, z2, by rw [adr_eq e1]; exact h2, h3⟩
theorem c_dig (K : Kn D s) (hg : Gv s b) : ∃ a6 a7, (eOf s b 6 = .ref a6 ∧ sg0 D s a6 = some (302, ia 100 (fun k => 48 + ((k % 10 : Nat) : Int)))) ∧ eOf s b 7 = .ref a7 ∧ sg0 D s a7 = some (302, ia 100 (fun k => 48 + ((k / 10 : Nat) : Int))) := by
  have d1 : ∀ k, k < 100 → Cond.eq (.elem (.static "java/lang/Integer" "DigitOnes" "[B") (.int (Int32.ofNat k))) (.int (iI (48 + ((k % 10 : Nat) : Int)))) ∈ flN := fun k hk => List.mem_of_mem_drop (List.mem_of_mem_take (by rw [dig_1]; exact List.mem_map.mpr ⟨k, List.mem_range.mpr hk, rfl⟩))
  have d2 : ∀ k, k < 100 → Cond.eq (.elem (.static "java/lang/Integer" "DigitTens" "[B") (.int (Int32.ofNat k))) (.int (iI (48 + ((k / 10 : Nat) : Int)))) ∈ flN := fun k hk => List.mem_of_mem_drop (List.mem_of_mem_take (by rw [dig_2]; exact List.mem_map.mpr ⟨k, List.mem_range.mpr hk, rfl⟩))
  obtain ⟨a6, h1, h2⟩ := by_at K hg (T := .static "java/lang/Integer" "DigitOnes" "[B") (n := 100) (f := fun k => 48 + ((k % 10 : Nat) : Int)) (by decide +kernel) (by decide +kernel) (by decide +kernel) d1 (by decide)
  obtain ⟨a7, h3, h4⟩ := by_at K hg (T := .static "java/lang/Integer" "DigitTens" "[B") (n := 100) (f := fun k => 48 + ((k / 10 : Nat) : Int)) (by decide +kernel) (by decide +kernel) (by decide +kernel) d2 (by decide)
  exact ⟨a6, a7, ⟨ref_of h1 (ev_6 hg), h2⟩, ref_of h3 (ev_7 hg), h4⟩
theorem c_vals (K : Kn D s) (hg : Gv s b) : ∃ a0, eOf s b 0 = .ref a0 ∧ sg0 D s a0 = some (307, [eOf s b 1, eOf s b 2, eOf s b 3, eOf s b 4, eOf s b 5]) := by
  obtain ⟨u, c, z, k, e1, e2, e3, e4, e5, e6, e7⟩ := Cond.exactly_spec (hg.at (c := .exactly (.static "ChantRules$Sound" "$VALUES" "[LChantRules$Sound;") "[LChantRules$Sound;") (by decide +kernel))
  obtain ⟨a1, a2⟩ := Cond.arrayOf_spec (hg.at (c := .arrayOf (.static "ChantRules$Sound" "$VALUES" "[LChantRules$Sound;") (.object "ChantRules$Sound")) (by decide +kernel)) e1 e3
  have hc : z.cls = D.1 107 := by rw [e6]; exact Option.some.inj (e2.symm.trans (f_107 K))
  refine ⟨u, ref_of e1 (ev_0 hg), ?_⟩
  rw [at_ar e3 (by rw [hc]; exact k_107 K) (by decide) a2 e5, ar_list (n := 5) (w := fun j => eOf s b (1 + j)) e1 e3 (va_eqt (hg.at (c := .eq (.length (.static "ChantRules$Sound" "$VALUES" "[LChantRules$Sound;")) (.int (Int32.ofNat 5))) (by decide +kernel))) (fun j hj => ?_) (by decide)]
  · rfl
  · match j, hj with
    | 0, _ => exact va_eqv (hg.at (c := .eq (.elem (.static "ChantRules$Sound" "$VALUES" "[LChantRules$Sound;") (.int (Int32.ofNat 0))) (.static "ChantRules$Sound" "A" "LChantRules$Sound;")) (by decide +kernel)) (ev_1 hg)
    | 1, _ => exact va_eqv (hg.at (c := .eq (.elem (.static "ChantRules$Sound" "$VALUES" "[LChantRules$Sound;") (.int (Int32.ofNat 1))) (.static "ChantRules$Sound" "B" "LChantRules$Sound;")) (by decide +kernel)) (ev_2 hg)
    | 2, _ => exact va_eqv (hg.at (c := .eq (.elem (.static "ChantRules$Sound" "$VALUES" "[LChantRules$Sound;") (.int (Int32.ofNat 2))) (.static "ChantRules$Sound" "C" "LChantRules$Sound;")) (by decide +kernel)) (ev_3 hg)
    | 3, _ => exact va_eqv (hg.at (c := .eq (.elem (.static "ChantRules$Sound" "$VALUES" "[LChantRules$Sound;") (.int (Int32.ofNat 3))) (.static "ChantRules$Sound" "D" "LChantRules$Sound;")) (by decide +kernel)) (ev_4 hg)
    | 4, _ => exact va_eqv (hg.at (c := .eq (.elem (.static "ChantRules$Sound" "$VALUES" "[LChantRules$Sound;") (.int (Int32.ofNat 4))) (.static "ChantRules$Sound" "NO_SOUND" "LChantRules$Sound;")) (by decide +kernel)) (ev_5 hg)
    | j + 5, hj => exact absurd hj (by omega)
theorem cE_start (K : Kn D s) (hts : ∀ w ∈ lw_tbl, w.before #[Value.ref b] s = true) (hg : Gv s b) : cE (eOf s b) (hp0 D s) (fun i => adr (eOf s b (1 + i))) (fun i => adr (eOf s b (100 + i))) := by
  obtain ⟨a0, v0, v1⟩ := c_vals K hg
  have s0 := c_s0 (D := D) K hg
  have s1 := c_s1 (D := D) K hg
  have s2 := c_s2 (D := D) K hg
  have s3 := c_s3 (D := D) K hg
  have s4 := c_s4 (D := D) K hg
  have t0 := c_t0 (D := D) K hts hg
  have t1 := c_t1 (D := D) K hts hg
  have t2 := c_t2 (D := D) K hts hg
  have t3 := c_t3 (D := D) K hts hg
  have t4 := c_t4 (D := D) K hts hg
  have t5 := c_t5 (D := D) K hts hg
  have t6 := c_t6 (D := D) K hts hg
  rw [s0.1, s1.1, s2.1, s3.1, s4.1] at v1
  refine ⟨⟨c_e8 hg, rfv_of hg (by decide +kernel) (ev_16 hg), rfv_of hg (by decide +kernel) (ev_12 hg), rfv_of hg (by decide +kernel) (ev_13 hg)⟩, ⟨⟨a0, v0, v1⟩, fun i hi => ?_, fun i hi => ?_, s4.2⟩, c_dig K hg, fun i hi => ?_⟩
  · match i, hi with
    | 0, _ => exact s0.1
    | 1, _ => exact s1.1
    | 2, _ => exact s2.1
    | 3, _ => exact s3.1
    | 4, _ => exact s4.1
    | i + 5, hi => exact absurd hi (by omega)
  · match i, hi with
    | 0, _ => exact s0.2
    | 1, _ => exact s1.2
    | 2, _ => exact s2.2
    | 3, _ => exact s3.2
    | i + 4, hi => exact absurd hi (by omega)
  · match i, hi with
    | 0, _ => exact t0
    | 1, _ => exact t1
    | 2, _ => exact t2
    | 3, _ => exact t3
    | 4, _ => exact t4
    | 5, _ => exact t5
    | 6, _ => exact t6
    | i + 7, hi => exact absurd hi (by omega)
end ST3
