/-! rows for the special instructions: TO BE PROVED -/
set_option maxRecDepth 100000
/-! Math.max, Math.min -/
section MM
variable {x : CX} {cc : ByteArray} {own : String} {y : MethodName} {nL : Nat} {ret : Option FieldType} {Q : Rs → HS → Prop} {pc : Nat} {K : Ct} {index Fx Lx : Nat}
theorem max_code : cJ11_max = Lib.Math.max.code := by decide +kernel
theorem min_code : cJ11_min = Lib.Math.min.code := by decide +kernel
def o_imax (K : Ct) : Ct := fun ls st h => match st with | .int w :: .int v :: r => catSum r ≤ 8 ∧ K ls (.int (if v < w then w else v) :: r) h | _ => False
theorem s_imax (G : Gd x cc own y nL ret Q) (hF : x.1.2.2.2.frames = Fx ∧ x.1.2.2.2.locals = Lx) (hf : 1 ≤ Fx ∧ 21 ≤ Lx) (h1 : Cond.methodLink own index Lib.Math.max.name ∈ lw_all) (h2 : Cond.static Lib.Math.max.name ∈ lw_all) (h3 : Cond.initialized "java/lang/Math" ∈ lw_all) (h4 : Cond.code Lib.Math.max.name cJ11_max 2 (some .int) ∈ lw_all) (d : decode cc pc = .ok (.invokestatic index, 3)) (kk : Snd x (pc + 3) K) : Snd x pc (o_imax K) := by
  intro ls st h hk H locs lsC hR hL hl
  unfold o_imax at hk
  split at hk
  · next w v r =>
    obtain ⟨hc, hk⟩ := hk
    rw [max_code] at h4
    refine aW_le G.gr hR fun e1 e2 => ?_
    have g1 := G.gr.2.1
    have g2 := G.gr.2.2
    exact va_mmax G.b.1 G.b.2 (by rw [G.ml]; exact hl.1.symm) G.ow (G.hts _ h1) (G.hts _ h2) (G.hts _ h3) (G.hts _ h4) (by rw [hF.1]; exact hf.1) (by rw [catSum_eq, hF.2]; omega) (by omega) (by omega) d (kk _ _ _ hk H locs lsC hR hL hl)
  · exact hk.elim
def o_imin (K : Ct) : Ct := fun ls st h => match st with | .int w :: .int v :: r => catSum r ≤ 8 ∧ K ls (.int (if w < v then w else v) :: r) h | _ => False
theorem s_imin (G : Gd x cc own y nL ret Q) (hF : x.1.2.2.2.frames = Fx ∧ x.1.2.2.2.locals = Lx) (hf : 1 ≤ Fx ∧ 21 ≤ Lx) (h1 : Cond.methodLink own index Lib.Math.min.name ∈ lw_all) (h2 : Cond.static Lib.Math.min.name ∈ lw_all) (h3 : Cond.initialized "java/lang/Math" ∈ lw_all) (h4 : Cond.code Lib.Math.min.name cJ11_min 2 (some .int) ∈ lw_all) (d : decode cc pc = .ok (.invokestatic index, 3)) (kk : Snd x (pc + 3) K) : Snd x pc (o_imin K) := by
  intro ls st h hk H locs lsC hR hL hl
  unfold o_imin at hk
  split at hk
  · next w v r =>
    obtain ⟨hc, hk⟩ := hk
    rw [min_code] at h4
    refine aW_le G.gr hR fun e1 e2 => ?_
    have g1 := G.gr.2.1
    have g2 := G.gr.2.2
    exact va_mmin G.b.1 G.b.2 (by rw [G.ml]; exact hl.1.symm) G.ow (G.hts _ h1) (G.hts _ h2) (G.hts _ h3) (G.hts _ h4) (by rw [hF.1]; exact hf.1) (by rw [catSum_eq, hF.2]; omega) (by omega) (by omega) d (kk _ _ _ hk H locs lsC hR hL hl)
  · exact hk.elim
end MM
def yL_law : MethodName := ⟨"ChantRulesLaw", "law", "([I)Z"⟩
section TODO
variable {x : CX} {cc : ByteArray} {own : String} {y : MethodName} {nL : Nat} {ret : Option FieldType} {Q : Rs → HS → Prop} {pc : Nat} {K : Ct} {X : Xt} {E : Nat → Value} {index : Nat}
theorem s_lam (EN : EX x E) (G : Gd x cc "ChantRules" yX0_init nL ret Q) (hr : rmOk x 0 3100 0) (d : decode cc 85 = .ok (.invokedynamic 52, 5)) (kk : Snd x 90 K) : Snd x 85 (o_lam K) := (EV.sp EN).1 x cc nL ret Q K ⟨rfl, rfl, rfl⟩ G hr d kk
theorem s_acopy (EN : EX x E) (G : Gd x cc own y nL ret Q) (hr : rmOk x 1 60 5) (hl : Cond.methodLink own index ⟨"java/lang/System", "arraycopy", "(Ljava/lang/Object;ILjava/lang/Object;II)V"⟩ ∈ lw_all) (d : decode cc pc = .ok (.invokestatic index, 3)) (kk : Snd x (pc + 3) K) : Snd x pc (o_acopy K) := (EV.sp EN).2.1 x cc own y nL ret Q K pc index ⟨rfl, rfl, rfl⟩ G hr hl d kk
theorem s_clone102 (EN : EX x E) (G : Gd x cc own y nL ret Q) (hr : rmOk x 1 60 5) (hl : Cond.methodLink own index ⟨"[B", "clone", "()Ljava/lang/Object;"⟩ ∈ lw_all) (d : decode cc pc = .ok (.invokevirtual index, 3)) (kk : Snd x (pc + 3) K) : Snd x pc (o_clone 102 .byte K) := (EV.sp EN).2.2.1 x cc own y nL ret Q K pc index ⟨rfl, rfl, rfl⟩ G hr hl d kk
theorem s_clone107 (EN : EX x E) (G : Gd x cc own y nL ret Q) (hr : rmOk x 1 60 5) (hl : Cond.methodLink own index ⟨"[LChantRules$Sound;", "clone", "()Ljava/lang/Object;"⟩ ∈ lw_all) (d : decode cc pc = .ok (.invokevirtual index, 3)) (kk : Snd x (pc + 3) K) : Snd x pc (o_clone 107 (.object "ChantRules$Sound") K) := (EV.sp EN).2.2.2.1 x cc own y nL ret Q K pc index ⟨rfl, rfl, rfl⟩ G hr hl d kk
theorem s_getCause (EN : EX x E) (G : Gd x cc own y nL ret Q) (hr : rmOk x 2 100 5) (hl : Cond.methodLink own index ⟨"ChantRules$Refused", "getCause", "()Ljava/lang/Throwable;"⟩ ∈ lw_all) (d : decode cc pc = .ok (.invokevirtual index, 3)) (kk : Snd x (pc + 3) K) : Snd x pc (o_getCause K) := (EV.sp EN).2.2.2.2.1 x cc own y nL ret Q K pc index ⟨rfl, rfl, rfl⟩ G hr hl d kk
theorem s_sign1 (EN : EX x E) (G : Gd x cc own y nL ret Q) (hr : rmOk x 2 100 5) (hl : Cond.methodLink own index ⟨"ChantRules$Sound", "sign", "()C"⟩ ∈ lw_all) (d : decode cc pc = .ok (.invokevirtual index, 3)) (kk : Snd x (pc + 3) K) : Snd x pc (o_sign1 K) := (EV.sp EN).2.2.2.2.2.1 x cc own y nL ret Q K pc index ⟨rfl, rfl, rfl⟩ G hr hl d kk
theorem s_callLam {wp : Wp} (EN : EX x E) (G : Gd x cc own y nL ret Q) (hr : rmOk x 5 150 5) (hty : ∀ (av : List Value) (h : HS) (Q : Rs → HS → Prop), wp av h Q → wp av h (fun rs h' => Q rs h' ∧ tyB rs)) (hM : rMet x.1.2.1 (yD x) x.2.2.2.1.2.1 yX0_lambda_new_0 (ws_ yX0_lambda_new_0 cX0_lambda_new_0 2 (some .boolean)) 3 84 wp) (hl : Cond.methodLink own index ⟨"ChantRules$Test", "is", "(LChantRules$Arc;)Z"⟩ ∈ lw_all) (d : decode cc pc = .ok (.invokeinterface index 2, 5)) (kk : Snd x (pc + 5) K) (hX : SndX x pc X) : Snd x pc (o_callLam wp X K) := (EV.sp EN).2.2.2.2.2.2 x cc own y nL ret Q K X pc index wp ⟨rfl, rfl, rfl⟩ G hr hty hM hl d kk hX
end TODO
/-! what a wider end makes of a step -/
section MONO
variable {K K' T T' A A' B B' : Ct} {X X' : Xt} {wp : Wp}
abbrev leC (K K' : Ct) : Prop := ∀ ls st h, K ls st h → K' ls st h
abbrev leX (X X' : Xt) : Prop := ∀ ls q h, X ls q h → X' ls q h
abbrev moW (wp : Wp) : Prop := ∀ (av : List Value) (h : HS) (Q Q' : Rs → HS → Prop), (∀ rs h', Q rs h' → Q' rs h') → wp av h Q → wp av h Q'
theorem mo_post (hX : leX X X') (hK : leC K K') {ls r : List Value} : ∀ rs h, callPost X K ls r rs h → callPost X' K' ls r rs h := by
  intro rs h hk
  unfold callPost at hk ⊢
  split at hk
  · exact hK _ _ _ hk
  · exact hK _ _ _ hk
  · exact hX _ _ _ hk
theorem mo_aload {i : Nat} (hK : leC K K') : leC (o_aload i K) (o_aload i K') := by
  intro ls st h hk
  unfold o_aload at hk ⊢
  generalize ls[i]? = o at hk ⊢
  split at hk
  · exact hK _ _ _ hk
  · exact hK _ _ _ hk
  · exact hk.elim
theorem mo_iload {i : Nat} (hK : leC K K') : leC (o_iload i K) (o_iload i K') := by
  intro ls st h hk
  unfold o_iload at hk ⊢
  generalize ls[i]? = o at hk ⊢
  split at hk
  · exact hK _ _ _ hk
  · exact hk.elim
theorem mo_icmpne (hT : leC T T') (hK : leC K K') : leC (o_icmpne T K) (o_icmpne T' K') := by
  intro ls st h hk
  unfold o_icmpne at hk ⊢
  split at hk
  · next z y r =>
    by_cases e : y = z
    · rw [if_pos e] at hk
      show (if y = z then K' ls r h else T' ls r h)
      rw [if_pos e]
      exact hK _ _ _ hk
    · rw [if_neg e] at hk
      show (if y = z then K' ls r h else T' ls r h)
      rw [if_neg e]
      exact hT _ _ _ hk
  · exact hk.elim
theorem mo_vsel {n : Nat} {cs : List Nat} (hA : leC A A') (hB : leC B B') : leC (o_vsel n cs A B) (o_vsel n cs A' B') := by
  intro ls st h hk
  unfold o_vsel at hk ⊢
  generalize splitN n st = o at hk ⊢
  split at hk
  · next b as r =>
    generalize h.1 b = o2 at hk ⊢
    split at hk
    · next c vs =>
      by_cases e : inK cs c = true
      · rw [if_pos e] at hk
        show (if inK cs c = true then A' ls st h else B' ls st h)
        rw [if_pos e]
        exact hA _ _ _ hk
      · rw [if_neg e] at hk
        show (if inK cs c = true then A' ls st h else B' ls st h)
        rw [if_neg e]
        exact hB _ _ _ hk
    · exact hk.elim
  · exact hk.elim
theorem mo_callV {n : Nat} {cs : List Nat} (hw : moW wp) (hX : leX X X') (hK : leC K K') : leC (o_callV cs n wp X K) (o_callV cs n wp X' K') := by
  intro ls st h hk
  unfold o_callV at hk ⊢
  generalize splitN n st = o at hk ⊢
  split at hk
  · next b as r =>
    generalize h.1 b = o2 at hk ⊢
    split at hk
    · next c vs =>
      exact ⟨hk.1, hk.2.1, hk.2.2.1, hw _ _ _ _ (mo_post hX hK) hk.2.2.2⟩
    · exact hk.elim
  · exact hk.elim
theorem mo_getf {cs : List Nat} {k : Nat} (hK : leC K K') : leC (o_getf cs k K) (o_getf cs k K') := by
  intro ls st h hk
  unfold o_getf at hk ⊢
  split at hk
  · next a r =>
    show (match h.1 a with | some (c, vs) => inK cs c = true ∧ (match vs[k]? with | some v => K' ls (v :: r) h | none => False) | none => False)
    generalize h.1 a = o2 at hk ⊢
    split at hk
    · next c vs =>
      obtain ⟨h1, h2⟩ := hk
      refine ⟨h1, ?_⟩
      generalize vs[k]? = o3 at h2 ⊢
      split at h2
      · exact hK _ _ _ h2
      · exact h2.elim
    · exact hk.elim
  · exact hk.elim
theorem mo_ireturn {ty : FieldType} {Q Q' : Rs → HS → Prop} (hQ : ∀ (v : Int32) (h : HS), narrow ty (.int v) = .int v → Q (.inl (some (.int v))) h → Q' (.inl (some (.int v))) h) : leC (o_ireturn ty Q) (o_ireturn ty Q') := by
  intro ls st h hk
  unfold o_ireturn at hk ⊢
  split at hk
  · exact ⟨hk.1, hQ _ _ hk.1 hk.2⟩
  · exact hk.elim
theorem mo_out {Q Q' : Rs → HS → Prop} (hQ : ∀ q h, Q (.inr q) h → Q' (.inr q) h) : leX (x_out Q) (x_out Q') := fun _ q h hk => ⟨hk.1, hQ q h hk.2⟩
end MONO
