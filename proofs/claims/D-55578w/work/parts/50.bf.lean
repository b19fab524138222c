/-! PURE: least labels of a graph, by passes over its arcs -/
set_option maxRecDepth 100000
/-- a label: weight, letters, the letters as a number to the base 4 -/
abbrev V3 : Type := Nat × Nat × Nat
abbrev l3 (x y : V3) : Prop := x.1 < y.1 ∨ (x.1 = y.1 ∧ (x.2.1 < y.2.1 ∨ (x.2.1 = y.2.1 ∧ x.2.2 < y.2.2)))
abbrev le3 (x y : V3) : Prop := ¬ l3 y x
theorem l3_irr (x : V3) : ¬ l3 x x := by simp only [l3]; omega
theorem le3_refl (x : V3) : le3 x x := l3_irr x
theorem le3_trans {x y z : V3} (h1 : le3 x y) (h2 : le3 y z) : le3 x z := by simp only [le3, l3] at *; omega
theorem l3_le {x y : V3} (h : l3 x y) : le3 x y := by simp only [le3, l3] at *; omega
theorem le3_lt {x y z : V3} (h1 : le3 x y) (h2 : l3 y z) : l3 x z := by simp only [le3, l3] at *; omega
theorem le3_anti {x y : V3} (h1 : le3 x y) (h2 : le3 y x) : x = y := by
  simp only [le3, l3] at *
  obtain ⟨a, b, c⟩ := x
  obtain ⟨d, e, f⟩ := y
  simp only [Prod.mk.injEq] at *
  omega
/-- an arc of labels: from, to, weight, what is sung (4 and more: nothing) -/
abbrev GA : Type := Nat × Nat × Nat × Nat
def ex (a : GA) (x : V3) : V3 := (x.1 + a.2.2.1, if a.2.2.2 < 4 then x.2.1 + 1 else x.2.1, if a.2.2.2 < 4 then 4 * x.2.2 + a.2.2.2 else x.2.2)
theorem ex_mono {a : GA} {x y : V3} (h : le3 x y) : le3 (ex a x) (ex a y) := by
  simp only [le3, l3, ex] at *
  by_cases e : a.2.2.2 < 4
  · simp only [if_pos e]; omega
  · simp only [if_neg e]; omega
theorem ex_inc (a : GA) (x : V3) : le3 x (ex a x) := by
  simp only [le3, l3, ex]
  by_cases e : a.2.2.2 < 4
  · simp only [if_pos e]; omega
  · simp only [if_neg e]; omega
/-- the labels of some vertices -/
abbrev Lb : Type := Nat → Option V3
/-- at most that -/
def atM (f : Lb) (v : Nat) (x : V3) : Prop := ∃ z, f v = some z ∧ le3 z x
theorem atM.mono {f : Lb} {v : Nat} {x y : V3} (h : atM f v x) (hl : le3 x y) : atM f v y := by
  obtain ⟨z, h1, h2⟩ := h
  exact ⟨z, h1, le3_trans h2 hl⟩
/-- an arc gives its end a lesser label -/
def less (f : Lb) (a : GA) : Bool := match f a.1 with
  | none => false
  | some x => match f a.2.1 with
    | none => true
    | some y => decide (l3 (ex a x) y)
def rlx (f : Lb) (a : GA) : Lb := if less f a then up f a.2.1 ((f a.1).map (ex a)) else f
theorem rlx_dec {f : Lb} {a : GA} {v : Nat} {x : V3} (h : atM f v x) : atM (rlx f a) v x := by
  unfold rlx
  split
  · next hl =>
    obtain ⟨z, h1, h2⟩ := h
    by_cases e : v = a.2.1
    · subst e
      unfold less at hl
      cases hf : f a.1 with
      | none => rw [hf] at hl; cases hl
      | some y =>
        rw [hf, h1] at hl
        have hl : l3 (ex a y) z := of_decide_eq_true hl
        exact ⟨ex a y, by simp [up_at], le3_trans (l3_le hl) h2⟩
    · exact ⟨z, by simp [up_at, e, h1], h2⟩
  · exact h
theorem rlx_ok {f : Lb} {a : GA} {x : V3} (h : atM f a.1 x) : atM (rlx f a) a.2.1 (ex a x) := by
  obtain ⟨z, h1, h2⟩ := h
  unfold rlx
  split
  · next hl => exact ⟨ex a z, by simp [up_at, h1], ex_mono h2⟩
  · next hl =>
    unfold less at hl
    rw [h1] at hl
    cases hg : f a.2.1 with
    | none => rw [hg] at hl; exact absurd rfl hl
    | some y =>
      rw [hg] at hl
      have hl : ¬ l3 (ex a z) y := by simpa using hl
      exact ⟨y, hg, le3_trans (show le3 y (ex a z) from hl) (ex_mono h2)⟩
def pass (L : List GA) (f : Lb) : Lb := L.foldl rlx f
theorem pass_dec {L : List GA} {f : Lb} {v : Nat} {x : V3} (h : atM f v x) : atM (pass L f) v x := by
  induction L generalizing f with
  | nil => exact h
  | cons a L ih => exact ih (rlx_dec h)
theorem pass_ok {L : List GA} {f : Lb} {a : GA} (ha : a ∈ L) {x : V3} (h : atM f a.1 x) : atM (pass L f) a.2.1 (ex a x) := by
  induction L generalizing f with
  | nil => cases ha
  | cons b L ih =>
    rcases List.mem_cons.1 ha with e | e
    · subst e; exact pass_dec (L := L) (rlx_ok h)
    · exact ih e (rlx_dec h)
def passes (L : List GA) : Nat → Lb → Lb
  | 0, f => f
  | n + 1, f => pass L (passes L n f)
theorem passes_dec {L : List GA} {f : Lb} {v : Nat} {x : V3} (n : Nat) (h : atM f v x) : atM (passes L n f) v x := by
  induction n with
  | zero => exact h
  | succ n ih => exact pass_dec ih
/-- a way, its last vertex first: vertices with labels -/
def GP (f0 : Lb) (L : List GA) : List (Nat × V3) → Prop
  | [] => False
  | [q] => f0 q.1 = some q.2
  | q :: p :: r => (∃ a, a ∈ L ∧ a.1 = p.1 ∧ a.2.1 = q.1 ∧ q.2 = ex a p.2) ∧ GP f0 L (p :: r)
theorem GP.inc {f0 : Lb} {L : List GA} {q : Nat × V3} {P : List (Nat × V3)} (h : GP f0 L (q :: P)) : ∀ p ∈ q :: P, le3 p.2 q.2 := by
  induction P generalizing q with
  | nil => intro p hp; rw [List.mem_singleton.1 hp]; exact le3_refl _
  | cons p P ih =>
    obtain ⟨⟨a, h1, h2, h3, h4⟩, h5⟩ := h
    intro p' hp'
    rcases List.mem_cons.1 hp' with e | e
    · rw [e]; exact le3_refl _
    · exact le3_trans (ih h5 p' e) (by rw [h4]; exact ex_inc _ _)
/-- after k passes no way of k arcs is less -/
theorem passes_GP {f0 : Lb} {L : List GA} (k : Nat) : ∀ (P : List (Nat × V3)) (q : Nat × V3), P.length ≤ k → GP f0 L (q :: P) → atM (passes L k f0) q.1 q.2 := by
  induction k with
  | zero =>
    intro P q hk h
    have : P = [] := List.length_eq_zero_iff.1 (by omega)
    subst this
    exact ⟨_, h, le3_refl _⟩
  | succ k ih =>
    intro P q hk h
    cases P with
    | nil => exact pass_dec (ih [] q (by simp) h)
    | cons p P =>
      obtain ⟨⟨a, h1, h2, h3, h4⟩, h5⟩ := h
      have := ih P p (by simp at hk; omega) h5
      rw [← h2] at this
      have := pass_ok h1 this
      rw [h3, ← h4] at this
      exact this
theorem nodup_len : ∀ (n : Nat) (l : List Nat), l.Nodup → (∀ x ∈ l, x < n) → l.length ≤ n := by
  intro n
  induction n with
  | zero =>
    intro l _ h
    cases l with
    | nil => simp
    | cons a l => exact absurd (h a List.mem_cons_self) (by omega)
  | succ n ih =>
    intro l hn h
    have h1 : (l.filter (fun x => decide (x ≠ n))).length ≤ n := ih _ (hn.filter _) (fun x hx => by
      have := List.mem_filter.1 hx
      have h3 := h x this.1
      have h4 : x ≠ n := by simpa using this.2
      omega)
    have h2 : ∀ l : List Nat, l.Nodup → l.length ≤ (l.filter (fun x => decide (x ≠ n))).length + 1 := by
      intro l
      induction l with
      | nil => simp
      | cons a l ihl =>
        intro hd
        have hd2 := List.nodup_cons.1 hd
        by_cases e : a = n
        · subst e
          have : l.filter (fun x => decide (x ≠ a)) = l := List.filter_eq_self.2 (fun x hx => by
            have : x ≠ a := fun e => hd2.1 (e ▸ hx)
            simpa using this)
          rw [List.filter_cons_of_neg (by simp), this]; simp
        · have := ihl hd2.2
          simp [e] at this ⊢
          omega
    have := h2 l hn
    omega
/-- the labels are those of ways that go nowhere twice -/
def GI (f0 : Lb) (L : List GA) (f : Lb) : Prop := ∀ v x, f v = some x → ∃ P, GP f0 L ((v, x) :: P) ∧ (((v, x) :: P).map (·.1)).Nodup ∧ ∀ q ∈ (v, x) :: P, atM f q.1 q.2
theorem GI.init {f0 : Lb} {L : List GA} : GI f0 L f0 := by
  intro v x h
  refine ⟨[], h, by simp, fun q hq => ?_⟩
  rw [List.mem_singleton.1 hq]
  exact ⟨x, h, le3_refl _⟩
theorem GI.step {f0 : Lb} {L : List GA} {f : Lb} (h : GI f0 L f) {a : GA} (ha : a ∈ L) : GI f0 L (rlx f a) := by
  intro v x hv
  by_cases hl : less f a = true
  · have e0 : rlx f a = up f a.2.1 ((f a.1).map (ex a)) := if_pos hl
    by_cases e : v = a.2.1
    · rw [e0, up_at, if_pos e] at hv
      cases hf : f a.1 with
      | none => rw [hf] at hv; cases hv
      | some y =>
        rw [hf] at hv
        cases hv
        obtain ⟨P, h1, h2, h3⟩ := h a.1 y hf
        have hnot : v ∉ ((a.1, y) :: P).map (·.1) := by
          intro hm
          obtain ⟨q, hq, hqv⟩ := List.mem_map.1 hm
          obtain ⟨z, hz, hzl⟩ := h3 q hq
          have h5 := GP.inc h1 q hq
          unfold less at hl
          rw [hqv, e] at hz
          rw [hf, hz] at hl
          have hl : l3 (ex a y) z := of_decide_eq_true hl
          have h6 : le3 z (ex a y) := le3_trans hzl (le3_trans h5 (ex_inc a y))
          exact h6 hl
        refine ⟨(a.1, y) :: P, ⟨⟨a, ha, rfl, e.symm, rfl⟩, h1⟩, List.nodup_cons.2 ⟨hnot, h2⟩, fun q hq => ?_⟩
        rcases List.mem_cons.1 hq with e2 | e2
        · subst e2
          exact ⟨ex a y, by rw [e0, up_at, if_pos e, hf]; rfl, le3_refl _⟩
        · exact rlx_dec (h3 q e2)
    · rw [e0, up_at, if_neg e] at hv
      obtain ⟨P, h1, h2, h3⟩ := h v x hv
      exact ⟨P, h1, h2, fun q hq => rlx_dec (h3 q hq)⟩
  · have e0 : rlx f a = f := if_neg hl
    rw [e0] at hv ⊢
    exact h v x hv
theorem GI.pas {f0 : Lb} {L L' : List GA} {f : Lb} (h : GI f0 L f) (hL : ∀ a ∈ L', a ∈ L) : GI f0 L (pass L' f) := by
  induction L' generalizing f with
  | nil => exact h
  | cons a L' ih => exact ih (h.step (hL a List.mem_cons_self)) (fun b hb => hL b (List.mem_cons_of_mem _ hb))
theorem GI.pss {f0 : Lb} {L : List GA} (k : Nat) : GI f0 L (passes L k f0) := by
  induction k with
  | zero => exact GI.init
  | succ k ih => exact ih.pas (fun a ha => ha)
/-- the way of a label has fewer arcs than there are vertices -/
theorem GI.len {f0 : Lb} {L : List GA} {f : Lb} (h : GI f0 L f) {n : Nat} (h0 : ∀ v x, f0 v = some x → v < n) (hL : ∀ a ∈ L, a.2.1 < n) {v : Nat} {x : V3} (hv : f v = some x) :
    ∃ P, GP f0 L ((v, x) :: P) ∧ P.length + 1 ≤ n := by
  obtain ⟨P, h1, h2, -⟩ := h v x hv
  refine ⟨P, h1, ?_⟩
  have hlt : ∀ (P : List (Nat × V3)) (q : Nat × V3), GP f0 L (q :: P) → ∀ p ∈ q :: P, p.1 < n := by
    intro P
    induction P with
    | nil => intro q hq p hp; rw [List.mem_singleton.1 hp]; exact h0 _ _ hq
    | cons r P ih =>
      intro q hq p hp
      obtain ⟨⟨a, g1, g2, g3, g4⟩, g5⟩ := hq
      rcases List.mem_cons.1 hp with e | e
      · rw [e, ← g3]; exact hL a g1
      · exact ih r g5 p e
  have := nodup_len n _ h2 (fun y hy => by
    obtain ⟨q, hq, e⟩ := List.mem_map.1 hy
    rw [← e]; exact hlt P _ h1 q hq)
  simpa using this
/-- nothing is less any more -/
def still (L : List GA) (f : Lb) : Prop := ∀ a ∈ L, less f a = false
theorem still_of {f0 : Lb} {L L' : List GA} {f : Lb} {n k : Nat} (h : GI f0 L f) (h0 : ∀ v x, f0 v = some x → v < n) (hL : ∀ a ∈ L, a.2.1 < n) (hk : n ≤ k + 1) (hd : ∀ v x, atM (passes L k f0) v x → atM f v x) (hs : ∀ a ∈ L', a ∈ L) : still L' f := by
  intro a ha
  cases hl : less f a with
  | false => rfl
  | true =>
    exfalso
    have h1 := h.step (hs a ha)
    have e0 : rlx f a = up f a.2.1 ((f a.1).map (ex a)) := if_pos hl
    cases hf : f a.1 with
    | none => unfold less at hl; rw [hf] at hl; cases hl
    | some y =>
      have hv : rlx f a a.2.1 = some (ex a y) := by rw [e0, up_at, if_pos rfl, hf]; rfl
      obtain ⟨P, h2, h3⟩ := h1.len h0 hL hv
      have h4 := hd _ _ (passes_GP (f0 := f0) (L := L) k P (a.2.1, ex a y) (by omega) h2)
      obtain ⟨z, hz, hzl⟩ := h4
      unfold less at hl
      rw [hf, show f a.2.1 = some z from hz] at hl
      exact hzl (of_decide_eq_true hl)
theorem pass_still {L : List GA} {f : Lb} (h : still L f) : pass L f = f := by
  induction L with
  | nil => rfl
  | cons a L ih =>
    have : rlx f a = f := by unfold rlx; rw [h a List.mem_cons_self]; rfl
    show pass L (rlx f a) = f
    rw [this]
    exact ih (fun b hb => h b (List.mem_cons_of_mem _ hb))
/-- with as many passes as vertices nothing is less any more -/
theorem passes_still {f0 : Lb} {L : List GA} {n k : Nat} (h0 : ∀ v x, f0 v = some x → v < n) (hL : ∀ a ∈ L, a.2.1 < n) (hk : n ≤ k + 1) : still L (passes L k f0) :=
  still_of (GI.pss k) h0 hL hk (fun _ _ h => h) (fun _ h => h)
/-! what a label is, whichever way it was found -/
def Der (f0 : Lb) (L : List GA) (v : Nat) (x : V3) : Prop := ∀ R : Nat → V3 → Prop, (∀ u y, f0 u = some y → R u y) → (∀ a ∈ L, ∀ y, R a.1 y → R a.2.1 (ex a y)) → R v x
theorem GP.der {f0 : Lb} {L : List GA} {q : Nat × V3} {P : List (Nat × V3)} (h : GP f0 L (q :: P)) : Der f0 L q.1 q.2 := by
  intro R h0 hR
  induction P generalizing q with
  | nil => exact h0 _ _ h
  | cons p P ih =>
    obtain ⟨⟨a, h1, h2, h3, h4⟩, h5⟩ := h
    rw [h4, ← h3]
    exact hR a h1 _ (by rw [h2]; exact ih h5)
/-- the least labels -/
def Lst (f0 : Lb) (L : List GA) (f : Lb) : Prop := (∀ v x, f v = some x → Der f0 L v x) ∧ ∀ v x, Der f0 L v x → atM f v x
theorem Lst.uniq {f0 : Lb} {L : List GA} {f g : Lb} (hf : Lst f0 L f) (hg : Lst f0 L g) : f = g := by
  funext v
  cases e : f v with
  | none =>
    cases e2 : g v with
    | none => rfl
    | some y =>
      obtain ⟨z, h1, -⟩ := hf.2 v y (hg.1 v y e2)
      rw [e] at h1; cases h1
  | some x =>
    obtain ⟨y, h1, h2⟩ := hg.2 v x (hf.1 v x e)
    obtain ⟨z, h3, h4⟩ := hf.2 v y (hg.1 v y h1)
    rw [e] at h3
    cases h3
    rw [h1, le3_anti h2 h4]
theorem Lst.of {f0 : Lb} {L : List GA} {f : Lb} (h : GI f0 L f) (h0 : ∀ v x, f0 v = some x → atM f v x) (hs : still L f) : Lst f0 L f := by
  refine ⟨fun v x hv => ?_, fun v x hd => ?_⟩
  · obtain ⟨P, h1, -, -⟩ := h v x hv
    exact GP.der h1
  · refine hd (fun v x => atM f v x) h0 (fun a ha y hy => ?_)
    have := rlx_ok hy
    rw [show rlx f a = f by unfold rlx; rw [hs a ha]; rfl] at this
    exact this
theorem passes_Lst {f0 : Lb} {L : List GA} {n k : Nat} (h0 : ∀ v x, f0 v = some x → v < n) (hL : ∀ a ∈ L, a.2.1 < n) (hk : n ≤ k + 1) : Lst f0 L (passes L k f0) :=
  Lst.of (GI.pss k) (fun v x h => passes_dec k ⟨x, h, le3_refl _⟩) (passes_still h0 hL hk)
