/-! THE END: the law from its entry to true; the claim (the tail began as SKELETON.whole's) -/
set_option maxRecDepth 100000
set_option maxHeartbeats 4000000 in
theorem mL_law {l : Launch} {D : DE} {s0 : State} {E : Nat → Value} (EN : EV l D s0 E) : rMet l D s0 yL_law (ws_ yL_law cL_law 8 (Option.some Jvm.ClassFile.FieldType.boolean)) 8192 104096 (wL_law E) := by
  refine body_met (fun j => j == 4 || j == 6) EN.kn (fun w h => h) (by decide +kernel) rfl (fun av h Q hw => ?_) ?_
  · unfold wL_law at hw
    split at hw
    · exact Nat.le_of_ble_eq_true rfl
    · exact hw.elim
  · intro p e s m below meth c av h Q hxt G hw
    unfold wL_law at hw
    split at hw
    · exact tL_law_0 EN G ⟨rfl, rfl⟩ rfl hxt (fun _ _ _ h => h) _ _ _ (hw (AW _ 18) (tL_law_18 EN G ⟨rfl, rfl⟩ rfl hxt (fun _ _ _ h => h)))
    · exact hw.elim
theorem same_nil {s t : State} {L : List Loc} {k n : Nat} (hL : ∀ z ∈ L, s.heap.size ≤ z.base) (h : s.sameButNew t L k n) : s.sameButNew t [] k n := by
  obtain ⟨q1, q2, q3, q4, q5, q6⟩ := h
  refine ⟨q1, q2, q3, q4, q5, fun a c hc => ?_⟩
  obtain ⟨c', r1, r2, r3, r4⟩ := q6 a c hc
  refine ⟨c', r1, r2, r3, fun i _ => r4 i (fun hm => ?_)⟩
  have h1 : s.heap.size ≤ a := hL _ hm
  have h2 := (Array.getElem?_eq_some_iff.mp hc).1
  omega
theorem ia_ints {z : Cell} {xs : List Int32} (h : z.slots.toList = xs.map Value.int) : z.slots.toList = ia xs.length (fun j => (xs.getD j 0).toInt) := by
  rw [h]
  unfold ia
  apply List.ext_getElem?
  intro j
  rw [List.getElem?_map, List.getElem?_map]
  by_cases hj : j < xs.length
  · rw [List.getElem?_range hj, List.getElem?_eq_getElem hj]
    show some (Value.int xs[j]) = some (Value.int (iI (xs.getD j 0).toInt))
    rw [← iI_of, List.getD_eq_getElem?_getD, List.getElem?_eq_getElem hj]
    rfl
  · rw [List.getElem?_eq_none (by omega), List.getElem?_eq_none (by rw [List.length_range]; omega)]
    rfl
def lw_P (b : Addr) (xs : List Int32) (args : Array Value) (s : State) : Prop := args = #[.ref b] ∧ s.IntsAt b xs ∧ xs.length ≤ 168 ∧ (Jvm.Cond.and given_1 narrow_1).before args s = true
def lw_Q (_ : Array Value) (s : State) (o : Outcome) (t : State) : Prop := o = .returned (some (.int 1)) ∧ Framed s o t [] 1200048 5501818
theorem lw_pre_spec {args : Array Value} {s : State} (h : (Jvm.Cond.and given_1 narrow_1).before args s = true) (hr : rest_1_c.before args s = true) : ∃ (b : Addr) (xs : List Int32), lw_P b xs args s := by
  have hs := flat_of_before _ h
  have hq := flat_of_before _ hr
  have hc : (Cond.count 1).before args s = true := hs _ (by decide +kernel)
  have harr : (Cond.arrayOf (.arg 0) .int).before args s = true := hs _ (by decide +kernel)
  have hle : (Cond.le (.length (.arg 0)) (.int 168)).before args s = true := hs _ (by decide +kernel)
  have hlen : (Cond.isInt (.length (.arg 0))).before args s = true := hq _ (by decide +kernel)
  have hall : (Cond.all (.arg 0) (.isInt (.elem (.arg 0) (.index 0)))).before args s = true := hq _ (by decide +kernel)
  obtain ⟨b, xs, hb, hx⟩ := State.ints_of_pre rfl harr hlen hall
  have hsm : xs.length < 2 ^ 31 := hx.choose_spec.2.2.2
  have hev : (Term.length (.arg 0)).eval args s none [] s = some (.int xs.length.toInt32) := hx.length_eval hb
  have hv := Cond.le_ints hev (show (Term.int 168).eval args s none [] s = some (.int 168) from rfl)
  have hd : xs.length.toInt32 ≤ 168 := by
    simpa [Cond.before, Cond.holds, hv] using hle
  have hN : xs.length ≤ 168 := (Int32.ofNat_le_ofNat hsm (by decide)).mp (show Int32.ofNat xs.length ≤ Int32.ofNat 168 from hd)
  exact ⟨b, xs, Cond.one_arg hc (show args[0]? = some (.ref b) from hb), hx, hN, h⟩
theorem lw_comes (l : Launch) (hflags : l.flags = flags0) : Comes l x (Jvm.Cond.code x code maxLocals ret :: tables_1) room_1 (fun tb e args s => Calls_1 tb e args s ∧ rest_1 tb e args s ∧ Pre_1 tb e args s)
    (fun _ _ args s o t => lw_Q args s o t) := by
  intro p e ha hc hk s m args below hf hfit hheap happ hpre
  obtain ⟨b, xs, rfl, hx, hbd, hgv⟩ := lw_pre_spec hpre.2.2 hpre.2.1
  obtain ⟨scr, harrAt, hlist, hof, hsmall⟩ := hx
  obtain ⟨hcb, hkn, -, -⟩ := State.arrayAt?_spec harrAt
  obtain ⟨a1, a2, a3, a4, a5, a6, a7, a8⟩ := (Spec.appliesLoose_iff hf).mp ((Spec.applies_iff_loose hf).mp happ).1
  have hts0 : ∀ c ∈ (Jvm.Cond.code x code maxLocals ret :: tables_1), c.before #[Value.ref b] s = true := atoms_spec (ws := Jvm.Cond.code x code maxLocals ret :: tables_1) a8
  have hts : ∀ w ∈ lw_tbl, w.before #[Value.ref b] s = true := k2_hts_sels lw_privs (fun w hw => hts0 w (List.mem_cons_of_mem _ hw)) lw_privs_ok
  have hcode : (Cond.code yL_law cL_law 8 (Option.some Jvm.ClassFile.FieldType.boolean)).before #[Value.ref b] s = true := hts0 _ List.mem_cons_self
  have hsz : scr.slots.size = xs.length := by rw [← Array.length_toList, hlist, List.length_map]
  obtain ⟨D, EN⟩ := ev_start hflags hts hgv hcb hof hkn (by omega)
  have hsc : scrE (eOf s b) b = some (300, ia xs.length (fun j => (xs.getD j 0).toInt)) := by rw [eOf_scr hcb (by omega), ia_ints hlist]
  have hmet := mL_law EN [.ref b] (hp0 D s) (fun rs _ => rs = .inl (some (.int (iI 1)))) rfl
    (law_whole (cE_start EN.kn hts hgv) wf0 hsc hbd (fun j => ⟨by have := Int32.le_toInt (xs.getD j 0); simpa using this, by have := Int32.toInt_lt (xs.getD j 0); simpa using this⟩) rfl rfl (fun _ => rfl))
  obtain ⟨k, o, h1, h2, h3, hQ⟩ := hmet p e ha hc hk s m #[.ref b] below hf ((Spec.appliesLoose_iff hf).mpr ⟨a1, a2, a3, a4, a5, a6, a7, atoms_intro (fun w hw => by
    rcases List.mem_cons.mp hw with q | q
    · rw [q]; exact hcode
    · exact hts w (lw_all_tbl q))⟩) ⟨rfl, rel0, State.WarmedH.refl s⟩ trivial
  obtain ⟨⟨L, hL, hW, hS⟩, h', hR, hres⟩ := hQ
  have ho : o = .returned (some (.int 1)) := by
    rcases hres with ⟨v, e1, e2⟩ | ⟨q, e1, -, e2⟩
    · have e3 : v = some (.int (iI 1)) := Sum.inl.inj e2
      rw [e1, e3]
      rfl
    · cases e2
  exact ⟨k, o, h1, h2, h3, ho, ⟨_, ho⟩, hW, same_nil hL hS⟩
theorem lw_frame {s t : State} {o : Outcome} {args : Array Value} (h : Framed s o t [] 1200048 5501818) :
    Framed s o t (fieldLocs frame_1_writes args s ++ arrayLocs frame_1_arrays args s ++ staticLocs frame_1_statics s) 1200048 5501818 := h
theorem lw_limb (L : Cond) (hL : ∀ (args : Array Value) (s t : State), L.after args s (.returned (some (.int 1))) t = true) :
    ArmFor flags0 classFile x code maxLocals ret World_1 tables_1 room_1 Calls_1 rest_1 Pre_1
      (fun tb e a s o t => postC L tb e a s o t ∧ Framed s o t (fieldLocs frame_1_writes a s ++ arrayLocs frame_1_arrays a s ++ staticLocs frame_1_statics s) 1200048 5501818) := by
  intro l hflags _ _ p e ha hc hk s m args below hf hfit hheap happ hpre
  obtain ⟨k, o, h1, h2, h3, rfl, hF⟩ := lw_comes l hflags p e ha hc hk s m args below hf hfit hheap happ hpre
  exact ⟨k, _, h1, h2, h3, hL args s _, lw_frame hF⟩
theorem i_vc : Claimed_1_1 ∧ Claimed_1_2 := ⟨lw_limb limb_1_1 (fun args s t => by simp [limb_1_1, Cond.after, Cond.holds, Cond.value]), lw_limb limb_1_2 (fun args s t => Cond.after_iff.mpr (by
  first | (rw [show limb_1_2 = Cond.eq .result (.int 1) from rfl, Cond.eq_ints (x := 1) (y := 1) rfl rfl]; simp; done) | (simp [limb_1_2, Cond.value, Term.eval]; done)))⟩
