/-! THE COMPONENT (14): both again, by weights alone; the graph without letters -/
set_option maxRecDepth 100000
/-- an arc without its letter -/
def wE (g : GA) : GA := (g.1, g.2.1, g.2.2.1, 9)
theorem pass_append (L M : List GA) (f : Lb) : pass (L ++ M) f = pass M (pass L f) := List.foldl_append
theorem still_app {A B : List GA} {f : Lb} (h1 : still A f) (h2 : still B f) : still (A ++ B) f := by
  intro a ha
  rcases List.mem_append.1 ha with q | q
  · exact h1 a q
  · exact h2 a q
theorem chF.app {G : List GA} {f0 f1 f2 : Lb} {T S : List GA} {c1 c2 : Bool} (h1 : chF G f0 f1 T c1) (h2 : chF G f1 f2 S c2) : chF G f0 f2 (T ++ S) (c1 || c2) := by
  obtain ⟨a1, a2, a3⟩ := h1
  obtain ⟨b1, b2, b3⟩ := h2
  refine ⟨by rw [b1, a1, pass_append], fun hc => ?_, fun hc => ?_⟩
  · obtain ⟨q1, q2⟩ := Bool.or_eq_false_iff.1 hc
    obtain ⟨s1, e1⟩ := a2 q1
    obtain ⟨s2, e2⟩ := b2 q2
    subst e1
    exact ⟨still_app s1 s2, e2⟩
  · cases hc1 : c1 with
    | true => exact a3 hc1
    | false =>
      rw [hc1, Bool.false_or] at hc
      obtain ⟨s1, e1⟩ := a2 hc1
      rw [← e1]
      exact b3 hc
theorem chF.sub {G G' : List GA} {f0 f : Lb} {T : List GA} {c : Bool} (h : chF G f0 f T c) (hs : ∀ g ∈ G, g ∈ G') : chF G' f0 f T c := ⟨h.1, h.2.1, fun hc hst => h.2.2 hc (fun g hg => hst g (hs g hg))⟩
theorem pass_sh {k n : Nat} {S : List GA} (hS : ∀ g ∈ S, g.1 < n ∧ g.2.1 < n) (f : Lb) : shL k n (pass (S.map (gS k k)) f) = pass S (shL k n f) := by
  induction S generalizing f with
  | nil => rfl
  | cons a S ih =>
    show shL k n (pass (S.map (gS k k)) (rlx f (gS k k a))) = pass S (rlx (shL k n f) a)
    rw [ih (fun g hg => hS g (List.mem_cons_of_mem _ hg)), rlx_sh (hS a List.mem_cons_self).1 (hS a List.mem_cons_self).2]
theorem still_shI {k n : Nat} {S : List GA} (hS : ∀ g ∈ S, g.1 < n ∧ g.2.1 < n) {f : Lb} : still (S.map (gS k k)) f ↔ still S (shL k n f) := by
  constructor
  · intro h g hg
    rw [← less_sh (hS g hg).1 (hS g hg).2]
    exact h _ (List.mem_map_of_mem hg)
  · intro h g hg
    obtain ⟨g', hg', rfl⟩ := List.mem_map.1 hg
    rw [less_sh (hS g' hg').1 (hS g' hg').2]
    exact h g' hg'
theorem chF.sh {k n : Nat} {S : List GA} (hS : ∀ g ∈ S, g.1 < n ∧ g.2.1 < n) {f0 f : Lb} {c : Bool} (h : chF (S.map (gS k k)) f0 f (S.map (gS k k)) c) : chF S (shL k n f0) (shL k n f) S c := by
  obtain ⟨h1, h2, h3⟩ := h
  refine ⟨by rw [h1, pass_sh hS], fun hc => ?_, fun hc hst => h3 hc ((still_shI hS).2 hst)⟩
  obtain ⟨q1, q2⟩ := h2 hc
  exact ⟨(still_shI hS).1 q1, by rw [q2]⟩
theorem lyr.pas {k n : Nat} {f f' : Lb} (h : lyr k n f f') {S : List GA} (hS : ∀ g ∈ S, k ≤ g.2.1 ∧ g.2.1 < k + n) : lyr k n f (pass S f') := by
  induction S generalizing f' with
  | nil => exact h
  | cons a S ih => exact ih (h.step (hS a List.mem_cons_self)) (fun g hg => hS g (List.mem_cons_of_mem _ hg))
theorem wE_gS (k k' : Nat) (g : GA) : wE (gS k k' g) = gS k k' (wE g) := rfl
/-- the graph without letters: ways have the same weights -/
theorem Der_wE {G : List GA} {v : Nat} {x : V3} (h : Der src0 (G.map wE) v x) : x.2 = (0, 0) ∧ ∃ y, Der src0 G v y ∧ y.1 = x.1 := by
  refine h (fun v x => x.2 = (0, 0) ∧ ∃ y, Der src0 G v y ∧ y.1 = x.1) (fun u y hu => ?_) (fun g hg y hy => ?_)
  · obtain ⟨h1, h2⟩ := src0_0 hu
    subst h1 h2
    exact ⟨rfl, (0, 0, 0), fun R h0 _ => h0 _ _ rfl, rfl⟩
  · obtain ⟨g', hg', rfl⟩ := List.mem_map.1 hg
    obtain ⟨e1, z, h1, h2⟩ := hy
    refine ⟨?_, ex g' z, fun R h0 hR => hR g' hg' z (h1 R h0 hR), ?_⟩
    · obtain ⟨y1, y2, y3⟩ := y
      simp only [Prod.mk.injEq] at e1
      simp [ex, wE, e1]
    · simp only [ex, wE, h2]
theorem Der_eW {G : List GA} {v : Nat} {y : V3} (h : Der src0 G v y) : Der src0 (G.map wE) v (y.1, 0, 0) := by
  refine h (fun v y => Der src0 (G.map wE) v (y.1, 0, 0)) (fun u y hu => ?_) (fun g hg y hy => ?_)
  · obtain ⟨h1, h2⟩ := src0_0 hu
    subst h1 h2
    exact fun R h0 _ => h0 _ _ rfl
  · intro R h0 hR
    have := hR (wE g) (List.mem_map_of_mem hg) (y.1, 0, 0) (hy R h0 hR)
    simpa [ex, wE] using this
/-- weights of the least labels -/
theorem Lst_wE {G : List GA} {f : Lb} {g : Nat → Option Nat} (hf : Lst src0 G f) (hg : Lst src0 (G.map wE) (toW g)) (v : Nat) : g v = (f v).map (·.1) := by
  cases e : f v with
  | none =>
    cases e2 : g v with
    | none => rfl
    | some w =>
      obtain ⟨-, y, h1, -⟩ := Der_wE (hg.1 v (w, 0, 0) (by simp [toW, e2]))
      obtain ⟨z, h2, -⟩ := hf.2 v y h1
      rw [e] at h2; cases h2
  | some x =>
    obtain ⟨z, h1, h2⟩ := hg.2 v _ (Der_eW (hf.1 v x e))
    cases e2 : g v with
    | none => simp [toW, e2] at h1
    | some w =>
      have hz : z = (w, 0, 0) := by simp [toW, e2] at h1; exact h1.symm
      subst hz
      obtain ⟨-, y, h3, h4⟩ := Der_wE (hg.1 v (w, 0, 0) (by simp [toW, e2]))
      obtain ⟨z, h5, h6⟩ := hf.2 v y h3
      rw [e] at h5
      cases h5
      simp only [Option.map_some, Option.some.injEq]
      simp only [le3, l3] at h2 h6
      simp only at h4
      omega
/-- labels that are weights, in an array -/
def cWt (h : HS) (w N : Nat) (g : Nat → Option Nat) : Prop := h.1 w = some (100, ia N (gv 1000000 g))
section C96
variable {E : Nat → Value} {Q : Rs → HS → Prop} {h : HS}
theorem c1_isLess {c w N u v : Nat} {k : Int} {g : Nat → Option Nat} (H : cWt h w N g) (hu : u < N) (hv : v < N) (hN : N < 100000) (hk : 0 ≤ k ∧ k ≤ 18) (hb : ∀ z x, g z = some x → x ≤ 100000)
    (hq : Q (.inl (some (.int (iI (bI (less (toW g) (u, v, k.toNat, 9) = true)))))) (hset h w (100, ia N (gv 1000000 (rw1 g u v k.toNat))))) : wX1_isLess E [.ref c, .ref w, .int (iI (u : Int)), .int (iI (v : Int)), .int (iI k)] h Q := by
  have H : h.1 w = some (100, ia N (gv 1000000 g)) := H
  have hbw : ∀ z x, g z = some x → (x : Int) + (k.toNat : Nat) < 1000000 := fun z x hz => by have := hb z x hz; omega
  have e1 : ia N (gv 1000000 (rw1 g u v k.toNat)) = ia N (up (gv 1000000 g) v (if gv 1000000 g u + k < gv 1000000 g v then gv 1000000 g u + k else gv 1000000 g v)) := ia_congr (fun z _ => by
    rw [gv_rw1 hbw, up_at, Int.toNat_of_nonneg hk.1])
  have e2 : less (toW g) (u, v, k.toNat, 9) = decide (gv 1000000 g u + k < gv 1000000 g v) := by rw [less_toW hbw, Int.toNat_of_nonneg hk.1]
  have b1 := gv_le (M := 1000000) (g := g) (fun z x hz => by have := hb z x hz; omega) u
  have b2 := gv_le (M := 1000000) (g := g) (fun z x hz => by have := hb z x hz; omega) v
  have b1' : 0 ≤ gv 1000000 g u ∧ gv 1000000 g u ≤ 1000000 := ⟨b1.2 (by omega), b1.1⟩
  have b2' : 0 ≤ gv 1000000 g v ∧ gv 1000000 g v ≤ 1000000 := ⟨b2.2 (by omega), b2.1⟩
  rw [e1, e2] at hq
  clear b1 b2 hbw
  by_cases hl : gv 1000000 g u + k < gv 1000000 g v
  · rw [if_pos hl, bI_t (by simp [hl])] at hq
    simp (disch := omega) only [wX1_isLess, bX1_isLess_38, bX1_isLess_35, bX1_isLess_17, bX1_isLess_16, bX1_isLess_0, e_iload0, e_aload0r, e_aload0n, e_istore0, e_astore0r, e_astore0n, e_iinc0, e_iload1, e_aload1r, e_aload1n, e_istore1, e_astore1r, e_astore1n, e_iinc1, e_iload2, e_aload2r, e_aload2n, e_istore2, e_astore2r, e_astore2n, e_iinc2, e_iload3, e_aload3r, e_aload3n, e_istore3, e_astore3r, e_astore3n, e_iinc3, e_iload4, e_aload4r, e_aload4n, e_istore4, e_astore4r, e_astore4n, e_iinc4, e_iload5, e_aload5r, e_aload5n, e_istore5, e_astore5r, e_astore5n, e_iinc5, e_iload6, e_aload6r, e_aload6n, e_istore6, e_astore6r, e_astore6n, e_iinc6, e_iload7, e_aload7r, e_aload7n, e_istore7, e_astore7r, e_astore7n, e_iinc7, e_iload8, e_aload8r, e_aload8n, e_istore8, e_astore8r, e_astore8n, e_iinc8, e_iload9, e_aload9r, e_aload9n, e_istore9, e_astore9r, e_astore9n, e_iinc9, e_dload4, e_dstore4, e_dload6, e_dstore6, e_push, e_iadd, e_isub, e_imul, e_iand, e_ior, e_ixor, e_ishl, e_ishr, e_iushr, e_idiv, e_irem, e_ineg, e_i2c, e_i2b, e_i2d, e_i2f, e_ddiv, e_fdiv, e_f2d, e_dcmp, e_dup_i, e_pop_i, e_dup_x1_ii, e_dup2_ii, e_dup_x1_ir, e_dup2_ir, e_dup_x1_in, e_dup2_in, e_dup_r, e_pop_r, e_dup_x1_ri, e_dup2_ri, e_dup_x1_rr, e_dup2_rr, e_dup_x1_rn, e_dup2_rn, e_dup_n, e_pop_n, e_dup_x1_ni, e_dup2_ni, e_dup_x1_nr, e_dup2_nr, e_dup_x1_nn, e_dup2_nn, e_ifeq, e_ifne, e_iflt, e_ifge, e_ifgt, e_ifle, e_icmpeq, e_icmpne, e_icmplt, e_icmpge, e_icmpgt, e_icmple, e_ifnull_n, e_ifnull_r, e_ifnonnull_n, e_ifnonnull_r, e_acmpeq_rr, e_acmpeq_rn, e_acmpeq_nr, e_acmpeq_nn, e_acmpne_rr, e_acmpne_rn, e_acmpne_nr, e_acmpne_nn, e_getf, e_putf, e_alen, e_ald, e_slen, e_sld, e_ast, e_aastr, e_aastn, e_new, e_newa, e_cast_n, e_cast_r, e_inst_n, e_inst_r, e_objInit, e_ireturn, e_return, e_areturn_r, e_areturn_n, e_dreturn, e_freturn, e_athrow, e_xout, e_xcatch, e_call0, e_call1, e_callI1, e_callV1, e_call2, e_callI2, e_callV2, e_call3, e_callI3, e_callV3, e_vsel3, e_call4, e_callI4, e_callV4, e_vsel4, e_call5, e_callI5, e_callV5, e_vsel5, e_call6, e_callI6, e_callV6, e_vsel6, e_call7, e_callI7, e_callV7, e_vsel7, e_callLam, e_cp0, e_cp1, e_cpx, e_imax, e_imin, e_sw, e_sw0, e_sw1, ok_nil, ok_i, ok_r, ok_n, cs_nil, cs_i, cs_r, cs_n, cs_d, cs_f, cat_i, cat_r, cat_n, na_i, na_ar, na_an, na_rr, na_rn, na_z0, na_z1, na_b0, na_b1, fi_i, fi_ar, fi_an, fi_rr, fi_rn, fi_z0, fi_z1, fi_b0, fi_b1, ik_0_0, ik_1_1, ik_10_10, ik_10_11_10, ik_10_11_11, ik_100_100, ik_100_300, ik_101_102_101, ik_101_102_102, ik_101_102_302, ik_102_102, ik_102_302, ik_103_104_105_106_107_103, ik_103_104_105_106_107_303, ik_103_104_105_106_107_104, ik_103_104_105_106_107_105, ik_103_104_105_106_107_106, ik_103_104_105_106_107_107, ik_103_104_105_106_107_307, ik_107_107, ik_107_307, ik_11_11, ik_12_12, ik_14_14, ik_14_15_14, ik_14_15_15, ik_15_15, ik_16_16, ik_17_17, ik_18_18, ik_19_19, ik_19_219, ik_2_2, ik_2_4_2, ik_2_4_4, ik_20_20, ik_21_21, ik_21_221, ik_21_22_21, ik_21_22_221, ik_21_22_22, ik_21_22_222, ik_3_3, ik_4_4, ik_5_5, ik_6_6, ik_6_9_13_6, ik_6_9_13_9, ik_6_9_13_13, ik_7_7, ik_8_8, ik_9_9, jk__9, jk_10_2, jk_10_4, jk_10_11, jk_10_18, jk_10_19, jk_10_21, jk_10_22, jk_10_219, jk_10_221, jk_10_222, jk_11_10, jk_14_2, jk_14_4, jk_14_10, jk_14_11, jk_14_18, jk_14_19, jk_14_21, jk_14_22, jk_14_219, jk_14_221, jk_14_222, jk_15_2, jk_15_4, jk_15_10, jk_15_11, jk_15_18, jk_15_19, jk_15_21, jk_15_22, jk_15_219, jk_15_221, jk_15_222, jk_18_2, jk_18_4, jk_18_10, jk_18_11, jk_18_19, jk_18_21, jk_18_22, jk_18_219, jk_18_221, jk_18_222, jk_2_4, jk_2_10, jk_2_11, jk_2_18, jk_2_19, jk_2_21, jk_2_22, jk_2_219, jk_2_221, jk_2_222, jk_21_2, jk_21_4, jk_21_10, jk_21_11, jk_21_18, jk_21_19, jk_21_22, jk_21_219, jk_21_222, jk_6_9, jk_9_6, kd_100, kd_101, kd_102, kd_103, kd_104, kd_105, kd_106, kd_107, kd_300, kd_302, kd_303, kd_307, List.getElem?_cons_succ, List.getElem?_cons_zero, List.getElem?_nil, List.set_cons_zero, List.set_cons_succ, true_and, and_true, and_self, if_true, if_false, not_false_iff, not_true, ↓reduceIte, reduceCtorEq, Nat.reduceLT, Nat.reduceLeDiff, Nat.reduceAdd, Nat.reduceSub, Nat.reduceEqDiff, Nat.reduceMod, hset_2, hnew_at, hnew_2, Nat.add_zero, Nat.zero_add, Nat.le_refl, and_false, false_and, Option.some.injEq, Prod.mk.injEq, Value.ref.injEq, bI_F, bI_T, bI_z, lt_t, lt_f, le_t, le_f, ieq_f, ieq_t, nlt_t, neq_f, ast_i, bI_or, bI_and, Int.toNat_natCast, Int.cast_ofNat_Int, not_false_eq_true, not_true_eq_false, ite_not, Int.reduceNeg, Int.reduceAdd, Int.reduceSub, Int.reduceMul, Int.reduceLT, Int.reduceLE, Int.reduceEq, Int.reduceToNat, Int.zero_add, Int.add_zero, Int.sub_zero, Int.lt_irrefl, decide_true, decide_false, mo_g0, mo_s0, mo_g1, mo_s1, mo_g2, mo_s2, mo_g3, mo_s3, mo_g4, mo_s4, mo_g5, mo_s5, mo_g6, mo_s6, mo_g7, mo_g8, mo_g9, mo_g10, mo_g11, mo_g12, mo_g13, mo_g14, mo_g15, mo_g16, mo_g17, mo_s17, mo_g18, mo_s18, mo_g19, mo_g20, mo_g21, mo_g22, mo_g23, mo_g24, mo_g25, mo_g26, mo_s26, mo_g27, mo_s27, mo_g28, mo_s28, mo_g29, mo_g30, mo_s30, mo_g31, mo_g32, mo_g33, mo_s33, mo_g34, mo_s34, mo_g35, mo_s35, mo_g36, mo_s36, mh_2, mh_m, mh_setm, mh_a0, mh_t0, mh_a1, mh_t1, mh_a2, mh_t2, mh_a3, mh_t3, mh_a4, mh_t4, mh_a5, mh_t5, mh_a6, mh_t6, mh_a7, mh_t7, mh_a8, mh_t8, mh_a9, mh_t9, mh_a10, mh_t10, mh_a11, mh_t11, mh_a12, mh_t12, mh_a13, mh_t13, mh_a14, mh_t14, mh_a15, mh_t15, mh_a16, mh_t16, mh_a17, mh_t17, mh_a18, mh_t18, mh_a19, mh_t19, ia_len, ia_get, ia_set, up_at, iI_add, iI_sub, iI_mul, iI_neg, iI_lit, iI_eq, iI_lt, iI_le, iI_nat, na_bI, fi_bI, na_b01, fi_b01, H, Int.toNat_natCast, hl]
    exact hq
  · rw [if_neg hl, bI_f (by simp [hl])] at hq
    simp (disch := omega) only [wX1_isLess, bX1_isLess_38, bX1_isLess_35, bX1_isLess_17, bX1_isLess_16, bX1_isLess_0, e_iload0, e_aload0r, e_aload0n, e_istore0, e_astore0r, e_astore0n, e_iinc0, e_iload1, e_aload1r, e_aload1n, e_istore1, e_astore1r, e_astore1n, e_iinc1, e_iload2, e_aload2r, e_aload2n, e_istore2, e_astore2r, e_astore2n, e_iinc2, e_iload3, e_aload3r, e_aload3n, e_istore3, e_astore3r, e_astore3n, e_iinc3, e_iload4, e_aload4r, e_aload4n, e_istore4, e_astore4r, e_astore4n, e_iinc4, e_iload5, e_aload5r, e_aload5n, e_istore5, e_astore5r, e_astore5n, e_iinc5, e_iload6, e_aload6r, e_aload6n, e_istore6, e_astore6r, e_astore6n, e_iinc6, e_iload7, e_aload7r, e_aload7n, e_istore7, e_astore7r, e_astore7n, e_iinc7, e_iload8, e_aload8r, e_aload8n, e_istore8, e_astore8r, e_astore8n, e_iinc8, e_iload9, e_aload9r, e_aload9n, e_istore9, e_astore9r, e_astore9n, e_iinc9, e_dload4, e_dstore4, e_dload6, e_dstore6, e_push, e_iadd, e_isub, e_imul, e_iand, e_ior, e_ixor, e_ishl, e_ishr, e_iushr, e_idiv, e_irem, e_ineg, e_i2c, e_i2b, e_i2d, e_i2f, e_ddiv, e_fdiv, e_f2d, e_dcmp, e_dup_i, e_pop_i, e_dup_x1_ii, e_dup2_ii, e_dup_x1_ir, e_dup2_ir, e_dup_x1_in, e_dup2_in, e_dup_r, e_pop_r, e_dup_x1_ri, e_dup2_ri, e_dup_x1_rr, e_dup2_rr, e_dup_x1_rn, e_dup2_rn, e_dup_n, e_pop_n, e_dup_x1_ni, e_dup2_ni, e_dup_x1_nr, e_dup2_nr, e_dup_x1_nn, e_dup2_nn, e_ifeq, e_ifne, e_iflt, e_ifge, e_ifgt, e_ifle, e_icmpeq, e_icmpne, e_icmplt, e_icmpge, e_icmpgt, e_icmple, e_ifnull_n, e_ifnull_r, e_ifnonnull_n, e_ifnonnull_r, e_acmpeq_rr, e_acmpeq_rn, e_acmpeq_nr, e_acmpeq_nn, e_acmpne_rr, e_acmpne_rn, e_acmpne_nr, e_acmpne_nn, e_getf, e_putf, e_alen, e_ald, e_slen, e_sld, e_ast, e_aastr, e_aastn, e_new, e_newa, e_cast_n, e_cast_r, e_inst_n, e_inst_r, e_objInit, e_ireturn, e_return, e_areturn_r, e_areturn_n, e_dreturn, e_freturn, e_athrow, e_xout, e_xcatch, e_call0, e_call1, e_callI1, e_callV1, e_call2, e_callI2, e_callV2, e_call3, e_callI3, e_callV3, e_vsel3, e_call4, e_callI4, e_callV4, e_vsel4, e_call5, e_callI5, e_callV5, e_vsel5, e_call6, e_callI6, e_callV6, e_vsel6, e_call7, e_callI7, e_callV7, e_vsel7, e_callLam, e_cp0, e_cp1, e_cpx, e_imax, e_imin, e_sw, e_sw0, e_sw1, ok_nil, ok_i, ok_r, ok_n, cs_nil, cs_i, cs_r, cs_n, cs_d, cs_f, cat_i, cat_r, cat_n, na_i, na_ar, na_an, na_rr, na_rn, na_z0, na_z1, na_b0, na_b1, fi_i, fi_ar, fi_an, fi_rr, fi_rn, fi_z0, fi_z1, fi_b0, fi_b1, ik_0_0, ik_1_1, ik_10_10, ik_10_11_10, ik_10_11_11, ik_100_100, ik_100_300, ik_101_102_101, ik_101_102_102, ik_101_102_302, ik_102_102, ik_102_302, ik_103_104_105_106_107_103, ik_103_104_105_106_107_303, ik_103_104_105_106_107_104, ik_103_104_105_106_107_105, ik_103_104_105_106_107_106, ik_103_104_105_106_107_107, ik_103_104_105_106_107_307, ik_107_107, ik_107_307, ik_11_11, ik_12_12, ik_14_14, ik_14_15_14, ik_14_15_15, ik_15_15, ik_16_16, ik_17_17, ik_18_18, ik_19_19, ik_19_219, ik_2_2, ik_2_4_2, ik_2_4_4, ik_20_20, ik_21_21, ik_21_221, ik_21_22_21, ik_21_22_221, ik_21_22_22, ik_21_22_222, ik_3_3, ik_4_4, ik_5_5, ik_6_6, ik_6_9_13_6, ik_6_9_13_9, ik_6_9_13_13, ik_7_7, ik_8_8, ik_9_9, jk__9, jk_10_2, jk_10_4, jk_10_11, jk_10_18, jk_10_19, jk_10_21, jk_10_22, jk_10_219, jk_10_221, jk_10_222, jk_11_10, jk_14_2, jk_14_4, jk_14_10, jk_14_11, jk_14_18, jk_14_19, jk_14_21, jk_14_22, jk_14_219, jk_14_221, jk_14_222, jk_15_2, jk_15_4, jk_15_10, jk_15_11, jk_15_18, jk_15_19, jk_15_21, jk_15_22, jk_15_219, jk_15_221, jk_15_222, jk_18_2, jk_18_4, jk_18_10, jk_18_11, jk_18_19, jk_18_21, jk_18_22, jk_18_219, jk_18_221, jk_18_222, jk_2_4, jk_2_10, jk_2_11, jk_2_18, jk_2_19, jk_2_21, jk_2_22, jk_2_219, jk_2_221, jk_2_222, jk_21_2, jk_21_4, jk_21_10, jk_21_11, jk_21_18, jk_21_19, jk_21_22, jk_21_219, jk_21_222, jk_6_9, jk_9_6, kd_100, kd_101, kd_102, kd_103, kd_104, kd_105, kd_106, kd_107, kd_300, kd_302, kd_303, kd_307, List.getElem?_cons_succ, List.getElem?_cons_zero, List.getElem?_nil, List.set_cons_zero, List.set_cons_succ, true_and, and_true, and_self, if_true, if_false, not_false_iff, not_true, ↓reduceIte, reduceCtorEq, Nat.reduceLT, Nat.reduceLeDiff, Nat.reduceAdd, Nat.reduceSub, Nat.reduceEqDiff, Nat.reduceMod, hset_2, hnew_at, hnew_2, Nat.add_zero, Nat.zero_add, Nat.le_refl, and_false, false_and, Option.some.injEq, Prod.mk.injEq, Value.ref.injEq, bI_F, bI_T, bI_z, lt_t, lt_f, le_t, le_f, ieq_f, ieq_t, nlt_t, neq_f, ast_i, bI_or, bI_and, Int.toNat_natCast, Int.cast_ofNat_Int, not_false_eq_true, not_true_eq_false, ite_not, Int.reduceNeg, Int.reduceAdd, Int.reduceSub, Int.reduceMul, Int.reduceLT, Int.reduceLE, Int.reduceEq, Int.reduceToNat, Int.zero_add, Int.add_zero, Int.sub_zero, Int.lt_irrefl, decide_true, decide_false, mo_g0, mo_s0, mo_g1, mo_s1, mo_g2, mo_s2, mo_g3, mo_s3, mo_g4, mo_s4, mo_g5, mo_s5, mo_g6, mo_s6, mo_g7, mo_g8, mo_g9, mo_g10, mo_g11, mo_g12, mo_g13, mo_g14, mo_g15, mo_g16, mo_g17, mo_s17, mo_g18, mo_s18, mo_g19, mo_g20, mo_g21, mo_g22, mo_g23, mo_g24, mo_g25, mo_g26, mo_s26, mo_g27, mo_s27, mo_g28, mo_s28, mo_g29, mo_g30, mo_s30, mo_g31, mo_g32, mo_g33, mo_s33, mo_g34, mo_s34, mo_g35, mo_s35, mo_g36, mo_s36, mh_2, mh_m, mh_setm, mh_a0, mh_t0, mh_a1, mh_t1, mh_a2, mh_t2, mh_a3, mh_t3, mh_a4, mh_t4, mh_a5, mh_t5, mh_a6, mh_t6, mh_a7, mh_t7, mh_a8, mh_t8, mh_a9, mh_t9, mh_a10, mh_t10, mh_a11, mh_t11, mh_a12, mh_t12, mh_a13, mh_t13, mh_a14, mh_t14, mh_a15, mh_t15, mh_a16, mh_t16, mh_a17, mh_t17, mh_a18, mh_t18, mh_a19, mh_t19, ia_len, ia_get, ia_set, up_at, iI_add, iI_sub, iI_mul, iI_neg, iI_lit, iI_eq, iI_lt, iI_le, iI_nat, na_bI, fi_bI, na_b01, fi_b01, H, Int.toNat_natCast, hl]
    exact hq
end C96
