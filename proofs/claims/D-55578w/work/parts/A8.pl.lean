/-! PURE: the answers of both sides are the same -/
set_option maxRecDepth 100000
theorem RF.uniq {V : Nat → Int} {r : Int} {b c b' c' : Nat → Bool} (h : RF V r b c) (h' : RF V r b' c') : b = b' ∧ c = c' := ⟨toL_inj (h.1.uniq h'.1), toL_inj (h.2.uniq h'.2)⟩
theorem LW.uniq {g : Nat → Option Nat} {B : Nat → Int} {n : Int} {p : Prop} [Decidable p] {x x' : Int} (h : LW g B n p x) (h' : LW g B n p x') : x = x' := by
  rcases h with ⟨rfl, h1⟩ | ⟨h0, ⟨v, w, h1, h2, h3, h4⟩, h5⟩
  · rcases h' with ⟨rfl, h1'⟩ | ⟨h0', ⟨v', w', h1', h2', h3', h4'⟩, h5'⟩
    · rfl
    · rw [h1 v' h1' h2'] at h3'; cases h3'
  · rcases h' with ⟨rfl, h1'⟩ | ⟨h0', ⟨v', w', h1', h2', h3', h4'⟩, h5'⟩
    · rw [h1' v h1 h2] at h3; cases h3
    · have e1 := h5 v' w' h1' h2' h3'
      have e2 := h5' v w h1 h2 h3
      omega
theorem oLeast.uniq {S : ST} {r a b : Int} (h : oLeast S r a) (h' : oLeast S r b) : a = b := by
  rcases h with ⟨h1, rfl⟩ | ⟨h1, h2, rfl⟩ | ⟨h1, h2, x, h3, rfl⟩
  · rcases h' with ⟨h1', rfl⟩ | ⟨h1', h2', rfl⟩ | ⟨h1', h2', x', h3', rfl⟩
    · rfl
    · exact absurd h1' h1
    · exact absurd h1' h1
  · rcases h' with ⟨h1', rfl⟩ | ⟨h1', h2', rfl⟩ | ⟨h1', h2', x', h3', rfl⟩
    · exact absurd h1 h1'
    · rfl
    · exact absurd h2' h2
  · rcases h' with ⟨h1', rfl⟩ | ⟨h1', h2', rfl⟩ | ⟨h1', h2', x', h3', rfl⟩
    · exact absurd h1 h1'
    · exact absurd h2 h2'
    · rw [Best.uniq h3 h3']
theorem sung.uniq {S : ST} {b : Option V3} {r r' : Int} {S1 S2 : ST} (h : sung S b r S1) (h' : sung S b r' S2) : r = r' ∧ S1 = S2 := by
  cases b with
  | none => exact ⟨by rw [h.1, h'.1], by rw [h.2, h'.2]⟩
  | some x =>
    obtain ⟨e1, l, h1, h2⟩ := h
    obtain ⟨e1', l', h1', h2'⟩ := h'
    rw [e1, e1', h2, h2', h1.uniq h1']
    exact ⟨rfl, rfl⟩
theorem oSing.uniq {S : ST} {r a b : Int} {S1 S2 : ST} (h : oSing S r a S1) (h' : oSing S r b S2) : a = b ∧ S1 = S2 := by
  rcases h with ⟨h1, rfl, rfl⟩ | ⟨h1, h2, rfl, rfl⟩ | ⟨h1, h2, x, h3, h4⟩
  · rcases h' with ⟨h1', rfl, rfl⟩ | ⟨h1', h2', rfl, rfl⟩ | ⟨h1', h2', x', h3', h4'⟩
    · exact ⟨rfl, rfl⟩
    · exact absurd h1' h1
    · exact absurd h1' h1
  · rcases h' with ⟨h1', rfl, rfl⟩ | ⟨h1', h2', rfl, rfl⟩ | ⟨h1', h2', x', h3', h4'⟩
    · exact absurd h1 h1'
    · exact ⟨rfl, rfl⟩
    · exact absurd h2' h2
  · rcases h' with ⟨h1', rfl, rfl⟩ | ⟨h1', h2', rfl, rfl⟩ | ⟨h1', h2', x', h3', h4'⟩
    · exact absurd h1 h1'
    · exact absurd h2 h2'
    · rw [Best.uniq h3 h3'] at h4
      exact h4.uniq h4'
theorem oBoth.uniq {S : ST} {a b : Int} (h : oBoth S a) (h' : oBoth S b) : a = b := by
  rcases h with ⟨h2, rfl⟩ | ⟨h2, x, h3, rfl⟩
  · rcases h' with ⟨h2', rfl⟩ | ⟨h2', x', h3', rfl⟩
    · rfl
    · exact absurd h2' h2
  · rcases h' with ⟨h2', rfl⟩ | ⟨h2', x', h3', rfl⟩
    · exact absurd h2 h2'
    · rw [Best.uniq h3 h3']
theorem oSingBoth.uniq {S : ST} {a b : Int} {S1 S2 : ST} (h : oSingBoth S a S1) (h' : oSingBoth S b S2) : a = b ∧ S1 = S2 := by
  rcases h with ⟨h2, rfl, rfl⟩ | ⟨h2, x, h3, h4⟩
  · rcases h' with ⟨h2', rfl, rfl⟩ | ⟨h2', x', h3', h4'⟩
    · exact ⟨rfl, rfl⟩
    · exact absurd h2' h2
  · rcases h' with ⟨h2', rfl, rfl⟩ | ⟨h2', x', h3', h4'⟩
    · exact absurd h2 h2'
    · rw [Best.uniq h3 h3'] at h4
      exact h4.uniq h4'
/-- both again: the model's answer is the same -/
theorem both_again {S : ST} (hI : SI S) {a b : Int} (hW : isW S) (h : ∀ b, Best (bothV (fun p q => S.1 1 * p + q) S.1) (cEn (S.1 1) (endsR S.1 0) (endsR S.1 1)) S.2.2.2.2.1.length (wordS S.2.2.2.2.1) b → a = wOf b) (h' : oBoth S b) : a = b := by
  rcases h' with ⟨h2', rfl⟩ | ⟨h2', x', h3', rfl⟩
  · exact absurd hW h2'
  · exact h x' (Best_U hI.1 h3')
theorem oLeastOf.uniq {V : Nat → Int} {r : Int} {p : Prop} [Decidable p] {a b : Int} (h : oLeastOf V r p a) (h' : oLeastOf V r p b) : a = b := by
  rcases h with ⟨h1, rfl⟩ | ⟨h1, g, x, h2, h3, rfl⟩
  · rcases h' with ⟨h1', rfl⟩ | ⟨h1', g', x', h2', h3', rfl⟩
    · rfl
    · exact absurd h1' h1
  · rcases h' with ⟨h1', rfl⟩ | ⟨h1', g', x', h2', h3', rfl⟩
    · exact absurd h1 h1'
    · rw [toW_inj (h2.uniq h2')] at h3
      rw [h3.uniq h3']
/-! breaths, either way -/
theorem mem_zF {L : List AR} {g : GA} : g ∈ L.flatMap (zF True) ↔ ∃ x ∈ L, x.2.2.1 = 4 ∧ g = zA x := by
  rw [List.mem_flatMap]
  constructor
  · rintro ⟨x, hx, hg⟩
    by_cases c : x.2.2.1 = 4
    · rw [zF_f (fun z => z.2 c)] at hg
      exact ⟨x, hx, c, List.mem_singleton.1 hg⟩
    · rw [zF_t ⟨trivial, c⟩] at hg
      cases hg
  · rintro ⟨x, hx, c, rfl⟩
    exact ⟨x, hx, by rw [zF_f (fun z => z.2 c)]; exact List.mem_singleton.2 rfl⟩
theorem mem_zB {L : List AR} {n : Nat} {t : Int} {g : GA} : g ∈ L.flatMap (zB n t) ↔ ∃ x ∈ L, x.2.2.1 = 4 ∧ (g = zA x ∨ (x.1 = t ∧ g = (n, x.2.1.toNat, 0, 9))) := by
  rw [List.mem_flatMap]
  constructor
  · rintro ⟨x, hx, hg⟩
    unfold zB at hg
    split at hg
    · rename_i c
      split at hg
      · rename_i c2
        rcases List.mem_cons.1 hg with rfl | hg
        · exact ⟨x, hx, c, Or.inr ⟨c2, rfl⟩⟩
        · exact ⟨x, hx, c, Or.inl (List.mem_singleton.1 hg)⟩
      · exact ⟨x, hx, c, Or.inl (List.mem_singleton.1 hg)⟩
    · cases hg
  · rintro ⟨x, hx, c, hg⟩
    refine ⟨x, hx, ?_⟩
    unfold zB
    rw [if_pos c]
    rcases hg with rfl | ⟨c2, rfl⟩
    · split
      · exact List.mem_cons_of_mem _ (List.mem_singleton.2 rfl)
      · exact List.mem_singleton.2 rfl
    · rw [if_pos c2]
      exact List.mem_cons_self
theorem ptL {k v : Nat} {y : V3} : toL (fun v => v == k) v = some y ↔ v = k ∧ y = (0, 0, 0) := by
  rw [toL_some]
  simp
/-- from t by one or more breaths -/
def Br1 (L : List AR) (t : Int) (v : Nat) : Prop := ∃ x ∈ L, x.2.2.1 = 4 ∧ x.1 = t ∧ Der (toL (fun v => v == x.2.1.toNat)) (L.flatMap (zF True)) v (0, 0, 0)
theorem ex_0 {a : GA} {x : V3} (h : a.2.2 = (0, 9)) : ex a x = x := by
  obtain ⟨a1, a2, a3, a4⟩ := a
  injection h with h1 h2
  subst h1 h2
  rfl
theorem zA_0 (x : AR) : (zA x).2.2 = (0, 9) := rfl
theorem Der_step {f : Lb} {G : List GA} {a : GA} {y : V3} (h : Der f G a.1 y) (ha : a ∈ G) : Der f G a.2.1 (ex a y) := fun R h1 h2 => h2 a ha y (h R h1 h2)
theorem Der_src {f : Lb} {G : List GA} {v : Nat} {y : V3} (h : f v = some y) : Der f G v y := fun _ h1 _ => h1 v y h
theorem Br1_zB {L : List AR} {n : Int} {t : Int} (hk : okR n L) (ht : 0 ≤ t ∧ t < n) {v : Nat} (hv : v ≠ n.toNat) : Der (toL (fun v => v == n.toNat)) (L.flatMap (zB n.toNat t)) v (0, 0, 0) ↔ Br1 L t v := by
  constructor
  · intro h
    have := h (fun v y => y = (0, 0, 0) ∧ (v = n.toNat ∨ Br1 L t v)) (fun u y hu => by
      obtain ⟨rfl, rfl⟩ := ptL.1 hu
      exact ⟨rfl, Or.inl rfl⟩) (fun a ha y hy => by
      obtain ⟨x, hx, c, hg⟩ := mem_zB.1 ha
      have ok := hk x hx
      obtain ⟨rfl, hy⟩ := hy
      rcases hg with rfl | ⟨c2, rfl⟩
      · refine ⟨ex_0 (zA_0 x), Or.inr ?_⟩
        rcases hy with hy | ⟨z, hz, z1, z2, z3⟩
        · have e : x.1.toNat = n.toNat := hy
          omega
        · have := Der_step z3 (mem_zF.2 ⟨x, hx, c, rfl⟩)
          rw [ex_0 (zA_0 x)] at this
          exact ⟨z, hz, z1, z2, this⟩
      · exact ⟨rfl, Or.inr ⟨x, hx, c, c2, Der_src (ptL.2 ⟨rfl, rfl⟩)⟩⟩)
    rcases this.2 with e | h
    · exact absurd e hv
    · exact h
  · rintro ⟨x, hx, c, c2, hd⟩
    have := hd (fun v y => y = (0, 0, 0) ∧ Der (toL (fun v => v == n.toNat)) (L.flatMap (zB n.toNat t)) v (0, 0, 0)) (fun u y hu => by
      obtain ⟨rfl, rfl⟩ := ptL.1 hu
      refine ⟨rfl, ?_⟩
      exact Der_step (a := (n.toNat, x.2.1.toNat, 0, 9)) (Der_src (ptL.2 ⟨rfl, rfl⟩)) (mem_zB.2 ⟨x, hx, c, Or.inr ⟨c2, rfl⟩⟩)) (fun a ha y hy => by
      obtain ⟨z, hz, cz, rfl⟩ := mem_zF.1 ha
      obtain ⟨rfl, hy⟩ := hy
      refine ⟨ex_0 (zA_0 z), ?_⟩
      have := Der_step hy (mem_zB.2 ⟨z, hz, cz, Or.inl rfl⟩)
      rw [ex_0 (zA_0 z)] at this
      exact this)
    exact this.2
/-- from t by breaths: t itself, or by one or more -/
theorem Br0_zF {L : List AR} {n : Int} {t : Int} (hk : okR n L) (ht : 0 ≤ t ∧ t < n) {v : Nat} : Der (toL (fun v => v == t.toNat)) (L.flatMap (zF True)) v (0, 0, 0) ↔ v = t.toNat ∨ Br1 L t v := by
  constructor
  · intro h
    have := h (fun v y => y = (0, 0, 0) ∧ (v = t.toNat ∨ Br1 L t v)) (fun u y hu => by
      obtain ⟨rfl, rfl⟩ := ptL.1 hu
      exact ⟨rfl, Or.inl rfl⟩) (fun a ha y hy => by
      obtain ⟨x, hx, c, rfl⟩ := mem_zF.1 ha
      have ok := hk x hx
      obtain ⟨rfl, hy⟩ := hy
      refine ⟨ex_0 (zA_0 x), Or.inr ?_⟩
      rcases hy with hy | ⟨z, hz, z1, z2, z3⟩
      · have e : x.1.toNat = t.toNat := hy
        exact ⟨x, hx, c, by omega, Der_src (ptL.2 ⟨rfl, rfl⟩)⟩
      · have := Der_step z3 (mem_zF.2 ⟨x, hx, c, rfl⟩)
        rw [ex_0 (zA_0 x)] at this
        exact ⟨z, hz, z1, z2, this⟩)
    exact this.2
  · rintro (rfl | ⟨x, hx, c, c2, hd⟩)
    · exact Der_src (ptL.2 ⟨rfl, rfl⟩)
    · have := hd (fun v y => y = (0, 0, 0) ∧ Der (toL (fun v => v == t.toNat)) (L.flatMap (zF True)) v (0, 0, 0)) (fun u y hu => by
        obtain ⟨rfl, rfl⟩ := ptL.1 hu
        refine ⟨rfl, ?_⟩
        have h0 : Der (toL (fun v => v == t.toNat)) (L.flatMap (zF True)) (zA x).1 (0, 0, 0) := by
          show Der _ _ x.1.toNat _
          rw [c2]
          exact Der_src (ptL.2 ⟨rfl, rfl⟩)
        have := Der_step h0 (mem_zF.2 ⟨x, hx, c, rfl⟩)
        rw [ex_0 (zA_0 x)] at this
        exact this) (fun a ha y hy => by
        obtain ⟨z, hz, cz, rfl⟩ := mem_zF.1 ha
        obtain ⟨rfl, hy⟩ := hy
        refine ⟨ex_0 (zA_0 z), ?_⟩
        have := Der_step hy (mem_zF.2 ⟨z, hz, cz, rfl⟩)
        rw [ex_0 (zA_0 z)] at this
        exact this)
      exact this.2
/-- a state's answers are the same -/
theorem stateOf_eq {V : Nat → Int} (hV : VI V) {r t w a b : Int} (hr : (0 ≤ r ∧ r ≤ 1) ∧ 0 ≤ t ∧ t ≤ V r.toNat - 1) (h : cOfS (V r.toNat) (arcsV V r) (endsR V r) t w a) (h' : oStateOf V r t w b) : a = b := by
  have v := hV.1 r hr.1.1 hr.1.2
  rcases h' with ⟨h1, -⟩ | ⟨-, h'⟩
  · exact absurd hr h1
  · rcases h with ⟨h0, rfl⟩ | ⟨h0, rfl⟩ | ⟨h0, rfl⟩ | ⟨h0, d, h1, rfl⟩ | ⟨h0, d, e, h1, h2, rfl⟩ | ⟨h0, d, h1, rfl⟩ | ⟨h0, rfl⟩
    · rcases h' with ⟨_, rfl⟩ | ⟨_, _⟩ | ⟨_, _⟩ | ⟨_, _⟩ | ⟨_, _⟩ | ⟨_, _⟩ | ⟨_, _⟩ <;> try omega
      unfold endsR
      rw [show (4 + 5 * r + ((t.toNat : Nat) : Int)).toNat = (4 + 5 * r + t).toNat by congr 1; omega]
    · rcases h' with ⟨_, _⟩ | ⟨_, rfl⟩ | ⟨_, _⟩ | ⟨_, _⟩ | ⟨_, _⟩ | ⟨_, _⟩ | ⟨_, _⟩ <;> try omega
    · rcases h' with ⟨_, _⟩ | ⟨_, _⟩ | ⟨_, rfl⟩ | ⟨_, _⟩ | ⟨_, _⟩ | ⟨_, _⟩ | ⟨_, _⟩ <;> try omega
    · rcases h' with ⟨_, _⟩ | ⟨_, _⟩ | ⟨_, _⟩ | ⟨_, d', e', h3, rfl⟩ | ⟨_, _⟩ | ⟨_, _⟩ | ⟨_, _⟩ <;> try omega
      rw [toL_inj (h1.uniq h3.1)]
    · rcases h' with ⟨_, _⟩ | ⟨_, _⟩ | ⟨_, _⟩ | ⟨_, _⟩ | ⟨_, d', e', h3, rfl⟩ | ⟨_, _⟩ | ⟨_, _⟩ <;> try omega
      rw [toL_inj (h1.uniq h3.1), toL_inj (h2.uniq h3.2)]
    · rcases h' with ⟨_, _⟩ | ⟨_, _⟩ | ⟨_, _⟩ | ⟨_, _⟩ | ⟨_, _⟩ | ⟨_, d', h3, rfl⟩ | ⟨_, _⟩ <;> try omega
      have hk := okR_arcsV hV hr.1
      congr 1
      funext u
      simp only [up, cut]
      by_cases e : u = t.toNat
      · subst e
        rw [if_pos rfl, (Lst_toL h1 _).2 ((Br0_zF hk (by omega)).2 (Or.inl rfl))]
        simp only [Bool.and_true, decide_eq_true_eq]
        omega
      · rw [if_neg e]
        by_cases lt : u < (V r.toNat).toNat
        · simp only [lt, decide_true, Bool.true_and]
          have i1 := (Lst_toL h1 u).trans (Br0_zF hk (by omega))
          have i2 := (Lst_toL h3 u).trans (Br1_zB hk (by omega) (by omega))
          rcases x : d u with _ | _
          · rcases y : d' u with _ | _
            · rfl
            · have := i1.2 (Or.inr (i2.1 y)); rw [x] at this; cases this
          · rcases i1.1 x with h | h
            · exact absurd h e
            · exact (i2.2 h).symm
        · simp only [lt, decide_false, Bool.false_and]
    · rcases h' with ⟨_, _⟩ | ⟨_, _⟩ | ⟨_, _⟩ | ⟨_, _⟩ | ⟨_, _⟩ | ⟨_, _⟩ | ⟨_, rfl⟩ <;> try omega
theorem exLst {f : Lb} {L : List GA} {n : Nat} (h0 : ∀ v x, f v = some x → v < n) (hL : ∀ a ∈ L, a.2.1 < n) : ∃ g, Lst f L g := ⟨passes L n f, passes_Lst h0 hL (by omega)⟩
/-- one comes back by breaths, either way -/
theorem ring_eq {V : Nat → Int} (hV : VI V) {r : Int} (hr : 0 ≤ r ∧ r ≤ 1) {b c : Nat → Bool} {t : Nat} (ht : (t : Int) < V r.toNat) : ringed V r c b t ↔ (c t = true ∧ b t = true) ∧ cBk (arcsV V r) t := by
  have hk := okR_arcsV hV hr
  have v := hV.1 r hr.1 hr.2
  constructor
  · rintro ⟨h1, d, h2, h3⟩
    refine ⟨h1, ?_⟩
    obtain ⟨x, hx, c1, c2, hd⟩ := (Br1_zB hk (by omega) (by omega)).1 ((Lst_toL h2 t).1 h3)
    have ok := hk x hx
    obtain ⟨g, hg⟩ := exLst (f := toL (fun v => v == x.2.1.toNat)) (L := (arcsV V r).flatMap (zF True)) (n := (V r.toNat).toNat) (fun u y hu => by
      obtain ⟨rfl, -⟩ := ptL.1 hu
      omega) (zF_lt hk)
    refine ⟨x, hx, c1, c2, fun u => (g u).isSome, ?_, ?_⟩
    · have e : toL (fun u => (g u).isSome) = g := by
        funext u
        unfold toL
        rcases hgu : g u with _ | y
        · simp only [hgu, Option.isSome_none, Bool.false_eq_true, if_false]
        · have := hg.1 u y hgu (fun _ y => y = (0, 0, 0)) (fun u y hu => (ptL.1 hu).2) (fun a ha y hy => by
            obtain ⟨z, hz, cz, rfl⟩ := mem_zF.1 ha
            rw [ex_0 (zA_0 z), hy])
          simp only [hgu, Option.isSome_some, if_true, this]
      rw [e]
      exact hg
    · obtain ⟨z, hz, -⟩ := hg.2 _ _ hd
      show (g t).isSome = true
      rw [hz]
      rfl
  · rintro ⟨h1, x, hx, c1, c2, d, h2, h3⟩
    refine ⟨h1, ?_⟩
    have hd := (Lst_toL h2 _).1 h3
    rw [show ((t : Int)).toNat = t from Int.toNat_natCast t] at hd
    have hm := (Br1_zB hk (t := (t : Int)) (by omega) (v := t) (by omega)).2 ⟨x, hx, c1, c2, hd⟩
    obtain ⟨g, hg⟩ := exLst (f := toL (fun v => v == (V r.toNat).toNat)) (L := (arcsV V r).flatMap (zB (V r.toNat).toNat t)) (n := (V r.toNat).toNat + 1) (fun u y hu => by
      obtain ⟨rfl, -⟩ := ptL.1 hu
      omega) (fun a ha => by
      obtain ⟨z, hz, cz, e⟩ := mem_zB.1 ha
      have ok := hk z hz
      rcases e with rfl | ⟨-, rfl⟩
      · show z.2.1.toNat < _
        omega
      · show z.2.1.toNat < _
        omega)
    refine ⟨fun u => (g u).isSome, ?_, ?_⟩
    · have e : toL (fun u => (g u).isSome) = g := by
        funext u
        unfold toL
        rcases hgu : g u with _ | y
        · simp only [hgu, Option.isSome_none, Bool.false_eq_true, if_false]
        · have := hg.1 u y hgu (fun _ y => y = (0, 0, 0)) (fun u y hu => (ptL.1 hu).2) (fun a ha y hy => by
            obtain ⟨z, hz, cz, e⟩ := mem_zB.1 ha
            rcases e with rfl | ⟨-, rfl⟩
            · rw [ex_0 (zA_0 z), hy]
            · rw [hy]; rfl)
          simp only [hgu, Option.isSome_some, if_true, this]
      rw [e]
      exact hg
    · obtain ⟨z, hz, -⟩ := hg.2 _ _ hm
      show (g t).isSome = true
      rw [hz]
      rfl
theorem breathes_eq {V : Nat → Int} (hV : VI V) {r : Int} (hr : 0 ≤ r ∧ r ≤ 1) {b c : Nat → Bool} {z : Bool} {res : Int} (hb : Lst src0 ((arcsV V r).map zA) (toL b)) (hc : Lst (endL (V r.toNat) (endsR V r)) ((arcsV V r).map zR) (toL c)) (hz : z = true ↔ ∃ t : Nat, (t : Int) < V r.toNat ∧ (c t = true ∧ b t = true) ∧ cBk (arcsV V r) t) (h' : oBreathes V r res) : bI (z = true) = res := by
  rcases h' with ⟨h1, -⟩ | ⟨-, b', c', hR, h'⟩
  · exact absurd hr h1
  · obtain ⟨e1, e2⟩ := RF.uniq ⟨hb, hc⟩ hR
    rw [← e1, ← e2] at h'
    rcases h' with ⟨rfl, t, h1, h2⟩ | ⟨rfl, h1⟩
    · exact bI_t (hz.2 ⟨t, h1, (ring_eq hV hr h1).1 h2⟩)
    · refine bI_f (fun q => ?_)
      obtain ⟨t, h2, h3⟩ := hz.1 q
      exact h1 t h2 ((ring_eq hV hr h2).2 h3)
/-- the line of the states is the same -/
theorem line_eq {V : Nat → Int} (hV : VI V) {r : Int} (hr : 0 ≤ r ∧ r ≤ 1) (b c : Nat → Bool) (n : Nat) (hn : n ≤ 5) : cLine (endsR V r) b c n = stLine V r b c n := by
  induction n with
  | zero => rfl
  | succ n ih =>
    simp only [cLine, stLine]
    rw [ih (by omega)]
    congr 1
    have e := hV.2.1 r n hr.1 hr.2 (by omega) (by omega)
    unfold cPart stPart endsR
    by_cases q : V (4 + 5 * r + (n : Int)).toNat < 0
    · rw [if_pos q, if_pos (show V (4 + 5 * r + (n : Int)).toNat = -1 by omega)]
    · rw [if_neg q, if_neg (show ¬ V (4 + 5 * r + (n : Int)).toNat = -1 by omega)]
theorem oShare.uniq {V : Nat → Int} {x y : UInt32} (h : oShare V x) (h' : oShare V y) : x = y := by
  obtain ⟨b, c, b', c', h1, h2, rfl⟩ := h
  obtain ⟨d, e, d', e', h1', h2', rfl⟩ := h'
  obtain ⟨rfl, rfl⟩ := h1.uniq h1'
  obtain ⟨rfl, rfl⟩ := h2.uniq h2'
  rfl
