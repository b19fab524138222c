/-! THE SPECIAL ROWS (2): the lambda is made; the sign of none of the letters -/
set_option maxRecDepth 100000
def sigL : Lambda.Shape := { iface := "ChantRules$Test", name := "is", sam := { parameters := [.object "ChantRules$Arc"], returnType := some .boolean }, captured := [.int], kind := 6, implClass := "ChantRules", implName := "lambda$new$0", implDesc := { parameters := [.int, .object "ChantRules$Arc"], returnType := some .boolean }, implItf := false, inst := { parameters := [.object "ChantRules$Arc"], returnType := some .boolean } }
theorem site_eq : siteWord_1_1 = Cond.lambdaSite yX0_init 85 52 sigL := rfl
theorem lays_L : ((sigL.file "ChantRules").bind (layoutFields · 0)).map (·.2.1) = some #[.int] := by decide +kernel
theorem sh_inv15 {α : Type} {x : Array Nat} {f : Nat → Nat → Nat → Option α} {r : α} (h : Lambda.shapeOf?.match_15 (fun _ => Option α) x f (fun _ => none) = some r) : ∃ a0 a1 a2, f a0 a1 a2 = some r := by
  rcases x with ⟨L⟩
  match L, h with
  | [], h => cases h
  | [_], h => cases h
  | [_, _], h => cases h
  | [a, b, c], h => exact ⟨a, b, c, h⟩
  | _ :: _ :: _ :: _ :: _, h => cases h
theorem shape_site {cf : ClassFile} {index : Nat} {σ : Lambda.Shape} (h : Lambda.shapeOf? cf index = some σ) :
    ∃ (b nt : Nat) (desc : String) (site : MethodDescriptor), cf.constantPool[index]? = some (.invokeDynamic b nt) ∧ cf.constantPool.nameAndType? nt = some (σ.name, desc) ∧ parseMethodDescriptor desc = some site ∧ site.parameters = σ.captured := by
  unfold Lambda.shapeOf? at h
  split at h
  · next b nt hc =>
    obtain ⟨entries, -, h⟩ := Option.bind_eq_some_iff.mp h
    obtain ⟨bm, -, h⟩ := Option.bind_eq_some_iff.mp h
    split at h
    · obtain ⟨_, -, h⟩ := Option.bind_eq_some_iff.mp h
      obtain ⟨a0, a1, a2, h⟩ := sh_inv15 h
      · split at h
        · split at h
          · split at h
            · obtain ⟨⟨name, desc⟩, hnt, h⟩ := Option.bind_eq_some_iff.mp h
              obtain ⟨site, hsite, h⟩ := Option.bind_eq_some_iff.mp h
              split at h
              · obtain ⟨⟨implClass, implName, implDesc, implItf⟩, -, h⟩ := Option.bind_eq_some_iff.mp h
                obtain ⟨x1, -, h⟩ := Option.bind_eq_some_iff.mp h
                obtain ⟨x2, -, h⟩ := Option.bind_eq_some_iff.mp h
                obtain ⟨x3, -, h⟩ := Option.bind_eq_some_iff.mp h
                obtain ⟨x4, -, h⟩ := Option.bind_eq_some_iff.mp h
                obtain ⟨x5, -, h⟩ := Option.bind_eq_some_iff.mp h
                cases h
                exact ⟨b, nt, desc, site, hc, hnt, hsite, rfl⟩
              · cases h
            · cases h
          · cases h
        · cases h
    · cases h
  · cases h
theorem made_ty {e : Setting} {s : State} {args : Array Value} {d c : ClassId} {σ : Lambda.Shape} {dk : Class} {T : Array FieldType} (h : Lambda.isMade e s.vm d σ c = true) (hd : s.vm.classes[d]? = some dk)
    (hO : (Cond.instantiable "java/lang/Object" 0).before args s = true) (hlay : ((σ.file dk.name).bind (layoutFields · 0)).map (·.2.1) = some T) : ∃ k, s.vm.classes[c]? = some k ∧ k.instanceTypes = T ∧ k.kind = .ordinary := by
  obtain ⟨dk', k, ok, tk, file, cf, object, iface, t, lay, methods, target, found, h1, h2, h3, h4, h5, h6, h7, h8, h9, h10, h11, h12, h13, ⟨-, hkind, -⟩, -, hhid, -, -, -, -, -, ⟨hty, -⟩, -⟩ := Lambda.isMade_spec h
  cases hd.symm.trans h1
  obtain ⟨cO, kO, hfO, hkO, -, -, -, hsz⟩ := Cond.instantiable_spec hO
  cases hfO.symm.trans h5
  cases hkO.symm.trans h7
  have hemp : ok.instanceTypes = #[] := Array.eq_empty_of_size_eq_zero hsz
  rw [hsz] at h8
  rw [h4] at hlay
  simp only [Option.bind_some, h8, Option.map_some, Option.some.injEq] at hlay
  exact ⟨k, h2, by rw [hty, hemp, hlay]; simp, hkind⟩
/-- what the tables say of the lambda's site -/
theorem lam_site {x : CX} {cc : ByteArray} {nL : Nat} {ret : Option FieldType} {Q : Rs → HS → Prop} {s0 : State} {cK : ClassId} {one : Option Addr} (hx3 : x.2.2.2.1.2.1 = s0) (G : Gd x cc "ChantRules" yX0_init nL ret Q) (hat : s0.lambdaAt? yX0_init 85 52 sigL = some (cK, one)) :
    ∃ (k : Class) (cf : ClassFile) (i0 p0 : Nat), (yS x).vm.classes[(yM x).cls]? = some k ∧ k.cf = some cf ∧ Lambda.shapeOf? cf 52 = some sigL ∧ (k.callSites.find? fun y => y.1 == (yM x).idx && y.2.1 == 85) = some (i0, p0, .makes cK) ∧ Lambda.isMade { classPath := fun _ => none } (yS x).vm (yM x).cls sigL cK = true := by
  obtain ⟨m', kS, cfS, i0, p0, lk, hm', hkS, hcfS, hshape, -, hfind, hmade, hcan, hlk⟩ := State.lambdaAt?_spec hat
  obtain ⟨rfl, -, -⟩ : lk = .makes cK ∧ one = none ∧ sigL.captured ≠ [] := by
    rcases hlk with ⟨a, cell, -, -, h, -⟩ | h
    · exact absurd h (by decide)
    · exact h
  have hW := G.warm
  rw [hx3] at hW
  have h9 : (s0.setVm (yS x).vm).methodNamed? yX0_init = some (yM x) := G.nm
  rw [State.methodNamed?_setVm hW.alike, hm'] at h9
  cases h9
  obtain ⟨kS', hkS', he⟩ := hW.alike.2.2 _ _ hkS
  exact ⟨kS', cfS, i0, p0, hkS', by rw [he]; exact hcfS, hshape, by rw [he]; exact hfind, Lambda.isMade_warmer hW hmade⟩
theorem sp_lam {l : Launch} {D : DE} {s0 : State} (hlam : ∃ one, s0.lambdaAt? yX0_init 85 52 sigL = some (D.1 99, one)) : SPlam l D s0 := by
  intro x cc nL ret Q K hx G hr d kk ls st h hk H locs lsC hR hL hl
  obtain ⟨-, hx2, hx3⟩ := hx
  unfold o_lam at hk
  split at hk
  · next k r =>
    obtain ⟨k1, k2, hcat, hk⟩ := hk
    obtain ⟨one, hat⟩ := hlam
    obtain ⟨kS, cfS, i0, p0, hkS, hcfS, hshape, hfind, hmade⟩ := lam_site hx3 G hat
    obtain ⟨kS', hkS', hnameS⟩ := className_of_methodNamed G.nm
    cases hkS.symm.trans hkS'
    obtain ⟨bsm, nt, desc, site, hc, hnt, hsite, hpar⟩ := shape_site hshape
    obtain ⟨kK, hkK, htyK, hkindK⟩ := made_ty (args := yA x) hmade hkS (G.hts _ q2399) (by rw [hnameS]; exact lays_L)
    have hslotsE : ((kK.instanceTypes.toList.zip [(.int k : Value)]).map fun (t, v) => narrow t v) = [.int k] := by
      rw [htyK]
      simp [narrow]
    have hr2 : 8 + (0 + 11) + 3100 ≤ x.1.2.2.2.locals := hr.2
    refine aW_le G.gr hR fun e1 e2 => ?_
    have g1 := G.gr.2.1
    have g2 := G.gr.2.2
    have hR' : RelH (yD x) x.2.2.2.1.2.1 (hnew h (99, [.int k]) 1) (H.push { cls := D.1 99, slots := [.int k].toArray, vm := .none }) := by
      have := hR.push (o := (99, [.int k])) (cell := { cls := D.1 99, slots := [.int k].toArray, vm := .none }) k1 (by show 1 ≤ _; exact k2) ⟨{ cls := D.1 99, slots := [.int k].toArray, vm := .none }, by simp, Or.inl (by show D.1 99 = (yD x).1 (kd 99); rw [hx2]; rfl), fun q => (by cases q), rfl, fun _ => ⟨hR.2.1, rfl, rfl, rfl⟩, fun q => by exfalso; have : kd 99 < 99 := q; revert this; decide, fun _ => rfl⟩
      exact this
    intro T hT X
    obtain ⟨X₁, st1⟩ := X.lambdaMakes G.b.1 (g := F0 (yM x) 85 lsC (.int k :: r)) rfl (by rw [G.ml]; exact hl.1) (by rw [G.b.2]; exact d) (vals := [.int k]) (rest := r)
      hkS hfind hcfS hc hnt (parseLong_of_parse hsite) (by rw [hpar]; rfl) rfl hkK
      (by rw [X.admits.platform]; show 2 * 0 + (1 + (r.map fun v => v.category).sum) + 3072 ≤ _; rw [catSum_eq]; omega) (by omega) (by rw [hslotsE]; show _ + 1 ≤ _; omega)
      (fun i v hv => by
        rw [hslotsE] at hv
        match i, hv with
        | 0, hv => simp at hv; subst hv; simp [State.fitsSlot, State.slotType?, hkK, hkindK, htyK, fits]
        | i + 1, hv => simp at hv)
    rw [hslotsE] at X₁ st1
    have hheap : (T.pushCell { cls := D.1 99, slots := [.int k].toArray, vm := .none }).heap = H.push { cls := D.1 99, slots := [.int k].toArray, vm := .none } := by rw [← hT]; rfl
    have K9 := aW_tight (ce := x.2.2.2.1.2.2.2.2.1 - h.2.2.1 + 1) (sl := x.2.2.2.1.2.2.2.2.2 - h.2.2.2 + [Value.int k].toArray.size) G.gr.1 hR' (kk _ _ _ hk _ locs lsC hR' hL hl)
    obtain ⟨t, b1, b2⟩ := K9 _ hheap X₁
    refine ⟨t, st1 t ?_, b2⟩
    have hnx : T.heap.size = h.2.1 := by rw [hT]; exact hR.1
    rw [hnx]
    exact b1
  · exact hk.elim
/-- steps seen from further below -/
theorem steps_weak {tb : Tables} {e : Env} {mid below : List Frame} {a b : State} (h : Steps tb e (mid ++ below) a b) : Steps tb e below a b := by
  obtain ⟨n, hn, w⟩ := h
  exact ⟨n, hn, fun k hk => (w k hk).weaken⟩
/-- a method of that name is plain -/
theorem plain_of {U : State} {y : MethodName} {mk : MethodId} (hn : U.methodNamed? y = some mk) (hy : plainName y.cls = true) : U.plainMethod mk := by
  refine State.plainMethod.of_name (fun k hk => ?_)
  obtain ⟨k', hk', he⟩ := className_of_methodNamed hn
  cases hk.symm.trans hk'
  rw [he]; exact hy
section SB
variable {l : Launch} {R : Room} {p : Program} {e : Env} {below : List Frame} {s : State} {sargs : Array Value} {D : DE} {s0 : State} {h : HS} {Q : Rs → HS → Prop} {b : Addr}
theorem sign_back (hts : ∀ w ∈ lw_all, w.before sargs s = true) (hexec : p.tables.exec = Jvm.exec) (hq : Q (.inl (some (.int 45))) h) (hf : 1 ≤ R.frames) (hlo : 40 ≤ R.locals) :
    vx_Back l R p e below s sargs yX15_sign 3 8 (rPre D s0 [.ref b] h R) (rPost D s0 Q) (rPostX D s0 Q) := by
  intro m meth c A g ig mk a X hg hsize hdg hW hn hp
  have hpay := pay_in hts (lw_meth q1125)
  obtain ⟨methk, ck, hmk, hck, hbytes, hml, hret, hlocks, htab, hsig⟩ := Cond.code_spec hn (hpay _ List.mem_cons_self a A.U X.warmed)
  obtain ⟨U, Ls, c0, n0⟩ := A
  dsimp only [Pt.U, Pt.locs, Pt.cells, Pt.slots] at hn X hmk
  obtain ⟨hc1, hc2, ha, hR, hwm⟩ := hp
  dsimp only [Pt.U, Pt.locs, Pt.cells, Pt.slots] at hc1 hc2 hR hwm
  subst ha
  obtain ⟨Y₀, hin⟩ := X.into hg hsize hdg #[.ref b] (R' := { frames := 0, locals := 0, cells := 0, slots := 0 }) hmk hck hlocks (plain_of hn (by decide)) (by show 0 + 1 ≤ _; omega) (by rw [hml]; show _ + _ + (1 + 11) + 0 ≤ _; omega) (by show c0 + 0 ≤ _; omega) (by show n0 + 0 ≤ _; omega)
  obtain ⟨lsC, e1, e2⟩ := entry_ok (av := [.ref b]) (n := 1) rfl (Nat.le_refl 1) (fun _ => false)
  rw [hml] at Y₀ hin
  have e1' : entryFrame mk #[.ref b] 1 = F0 mk 0 lsC [] := e1 mk
  rw [e1'] at Y₀ hin
  have K : W p l e { frames := 0, locals := 0, cells := 0, slots := 0 } (U.calling g mk #[.ref b]) mk #[.ref b] (.java g :: below) methk ck U.heap [] 0 0 (MQ (.java g :: below) (fun _ _ o t => o = .returned (some (.int 45)) ∧ t.heap = U.heap) #[.ref b] (U.calling g mk #[.ref b]) 0 0 (fun q => s0.heap.size ≤ q)) (F0 mk 0 lsC []) := by
    refine lv_bipush (v := 45) hexec hbytes dX15_sign_0 (by decide) ?_
    exact W.zret hexec hbytes hret (by decide) (fun t ht hW => ⟨rfl, ht⟩) (fun _ h => nomatch h) dX15_sign_2 hlocks
  obtain ⟨t, st, o, a1, a2, ⟨a3, a4⟩, L, ⟨b1, b2, b3⟩, b4⟩ := K ((U.setTop g).pushFrame (.java (F0 mk 0 lsC []))) rfl Y₀
  subst a3
  obtain ⟨T', X', hW', hB', ht⟩ := X.outOf hg hdg a2 b2 b3
  have hT' : T'.heap = U.heap := by rw [← a4, ht]; rfl
  refine Or.inl ⟨some (.int 45), ⟨T', Ls ++ L, c0 + 0, n0 + 0⟩, X', ⟨h, L, by show RelH D s0 h T'.heap; rw [hT']; exact hR, hq, rfl, b4⟩, ?_⟩
  show Steps p.tables e below (doInvoke e (U.setTop g) [] mk #[.ref b]).1 (T'.setTop { g with pc := g.pc + 3, stack := (some (Value.int 45)).toList ++ g.stack })
  rw [hin [], ← ht]
  exact steps_weak (mid := [.java g]) st
end SB
theorem sp_sign {l : Launch} {D : DE} {s0 : State} : SPsign l D s0 := by
  intro x cc own y nL ret Q K pc index hx G hr hl9 d kk ls st h hk H locs lsC hR hL hl
  obtain ⟨-, hx2, hx3⟩ := hx
  unfold o_sign1 at hk
  split at hk
  · next b r =>
    split at hk
    · next c vs hσ =>
      obtain ⟨hin, hcat, hk⟩ := hk
      obtain ⟨cell, r2, ks, f1, f2, f3, f4, f5, f6⟩ := rcv_of G.kn hR (cs := [22]) (fun c hc => by rw [List.mem_singleton.1 hc]; decide) hσ hin
      rw [List.mem_singleton.1 f2] at f1
      cases (Option.some.inj f1)
      have hr2 : 8 + (5 + 11) + 100 ≤ x.1.2.2.2.locals := hr.2
      have hr1 : 2 + 1 ≤ x.1.2.2.2.frames := hr.1
      refine aW_le G.gr hR fun e1 e2 => call_end (len := 3) (h := h) (r := r) (a := (Value.ref b :: []).toArray) G hL hl kk sx_no fun T hT X0 => ?_
      have hK := sign_back (l := x.1.2.1) (R := x.1.2.2.2) (p := x.1.1) (e := x.1.2.2.1) (below := x.2.1.2.2.2) (s := yS x) (sargs := yA x) (D := yD x) (s0 := x.2.2.2.1.2.1) (h := h) (Q := callPost x_no K ls r) (b := b) G.hts G.b.1 hk (by omega) (by omega)
      have hdw : va_Decl (yS x) ⟨"ChantRules$Sound", "sign", "()C"⟩ := va_Decl.of (G.hts _ q1120) (G.hts _ q1126)
      exact vx_callVU X0 G.b.1 G.ow (G.hts _ hl9) (G.hts _ q1122) hdw (by decide) (G.hts _ q1123) (G.hts _ q1124) (G.hts _ q1125) hK (by rw [hT]; exact f3) f4 f5 (g := F0 (yM x) pc lsC (.ref b :: r)) rfl (by rw [G.ml]; exact hl.1) (argsL := []) (rest := r) (fun sig hs => by
          have h1 : parseMethodDescriptor "()C" = some { parameters := [], returnType := some .char } := by decide +kernel
          have h2 : parseMethodDescriptor "()C" = some sig := hs
          rw [h1] at h2; cases h2; rfl) rfl (r_rm hcat rfl) (by rw [G.b.2]; exact d) (fun vm₁ hW => call_pre G e1 e2 hR hT hW)
    · exact hk.elim
  · exact hk.elim
