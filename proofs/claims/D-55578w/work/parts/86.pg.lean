/-! PURE: layers of a graph; readings by layers -/
set_option maxRecDepth 100000
/-- an arc in the layer that begins at at -/
def gS (k k' : Nat) (g : GA) : GA := (k + g.1, k' + g.2.1, g.2.2.1, g.2.2.2)
/-- the labels of a layer -/
def shL (k n : Nat) (f : Lb) : Lb := fun v => if v < n then f (k + v) else none
theorem shL_at {k n v : Nat} {f : Lb} (h : v < n) : shL k n f v = f (k + v) := if_pos h
theorem less_sh {k n : Nat} {f : Lb} {g : GA} (h1 : g.1 < n) (h2 : g.2.1 < n) : less f (gS k k g) = less (shL k n f) g := by
  unfold less
  rw [shL_at h1, shL_at h2]
  rfl
theorem rlx_sh {k n : Nat} {f : Lb} {g : GA} (h1 : g.1 < n) (h2 : g.2.1 < n) : shL k n (rlx f (gS k k g)) = rlx (shL k n f) g := by
  unfold rlx
  rw [less_sh h1 h2]
  split
  · funext v
    simp only [shL, up_at, gS]
    by_cases e : v = g.2.1
    · subst e; simp [h1, h2]; rfl
    · rw [if_neg e]
      by_cases e2 : v < n
      · rw [if_pos e2, if_pos e2, if_neg (by omega)]
      · rw [if_neg e2, if_neg e2]
  · rfl
theorem rlx_off {f : Lb} {g : GA} {v : Nat} (h : v ≠ g.2.1) : rlx f g v = f v := by
  unfold rlx
  split
  · rw [up_at, if_neg h]
  · rfl
/-- what holds between labels before and behind some steps that touch one layer alone -/
def lyr (k n : Nat) (f f' : Lb) : Prop := (∀ v, ¬ (k ≤ v ∧ v < k + n) → f' v = f v) ∧ ∀ v x, atM f v x → atM f' v x
theorem lyr.rfl {k n : Nat} {f : Lb} : lyr k n f f := ⟨fun _ _ => Eq.refl _, fun _ _ h => h⟩
theorem lyr.step {k n : Nat} {f f' : Lb} (h : lyr k n f f') {g : GA} (hg : k ≤ g.2.1 ∧ g.2.1 < k + n) : lyr k n f (rlx f' g) :=
  ⟨fun v hv => by rw [rlx_off (f := f') (g := g) (fun e => hv (by rw [e]; exact hg))]; exact h.1 v hv, fun v x hx => rlx_dec (h.2 v x hx)⟩
theorem lyr.tr {k n : Nat} {f f' f'' : Lb} (h : lyr k n f f') (h' : lyr k n f' f'') : lyr k n f f'' :=
  ⟨fun v hv => by rw [h'.1 v hv, h.1 v hv], fun v x hx => h'.2 v x (h.2 v x hx)⟩
/-- what arcs ask is met -/
def metG (S : List GA) (f : Lb) : Prop := ∀ g ∈ S, ∀ y, f g.1 = some y → atM f g.2.1 (ex g y)
theorem metG.still {S : List GA} {f : Lb} (h : metG S f) : still S f := still_closed h
theorem still_met {S : List GA} {f : Lb} (h : still S f) : metG S f := by
  intro g hg y hy
  have := rlx_ok (f := f) (a := g) ⟨y, hy, le3_refl _⟩
  rw [show rlx f g = f from rlx_not (h g hg)] at this
  exact this
theorem metG.lyr {S : List GA} {k n : Nat} {f f' : Lb} (h : metG S f) (hl : lyr k n f f') (hS : ∀ g ∈ S, g.1 < k ∨ k + n ≤ g.1) : metG S f' := by
  intro g hg y hy
  have := hS g hg
  rw [hl.1 g.1 (by omega)] at hy
  exact hl.2 _ _ (h g hg y hy)
theorem metG.sub {S S' : List GA} {f : Lb} (h : metG S f) (hs : ∀ g ∈ S', g ∈ S) : metG S' f := fun g hg => h g (hs g hg)
/-- breaths of a rule: within a layer -/
def zW (x : AR) : GA := (x.1.toNat, x.2.1.toNat, x.2.2.2.2.toNat, x.2.2.2.1.toNat)
def zBr (x : AR) : List GA := if x.2.2.1 = 4 then [zW x] else []
/-- letters c: from a layer to the next -/
def zLt (c : Int) (x : AR) : List GA := if ¬ x.2.2.1 = 4 ∧ x.2.2.1 = c - 97 then [zW x] else []
/-- the whole graph -/
def gAll (n T : Nat) (word : Nat → Int) (L : List AR) : List GA :=
  (List.range (T + 1)).flatMap (fun pos => (L.flatMap zBr).map (gS (n * pos) (n * pos))) ++ (List.range T).flatMap (fun pos => (L.flatMap (zLt (word pos))).map (gS (n * pos) (n * (pos + 1))))
theorem zBr_lt {L : List AR} {n : Int} (hk : okR n L) : ∀ g ∈ L.flatMap zBr, g.1 < n.toNat ∧ g.2.1 < n.toNat ∧ g.2.2.1 ≤ 18 := by
  intro g hg
  obtain ⟨x, hx, hgx⟩ := List.mem_flatMap.1 hg
  have := hk x hx
  unfold zBr at hgx
  split at hgx
  · rw [List.mem_singleton.1 hgx]; simp only [zW]; omega
  · cases hgx
theorem zLt_lt {L : List AR} {n c : Int} (hk : okR n L) : ∀ g ∈ L.flatMap (zLt c), g.1 < n.toNat ∧ g.2.1 < n.toNat ∧ g.2.2.1 ≤ 18 := by
  intro g hg
  obtain ⟨x, hx, hgx⟩ := List.mem_flatMap.1 hg
  have := hk x hx
  unfold zLt at hgx
  split at hgx
  · rw [List.mem_singleton.1 hgx]; simp only [zW]; omega
  · cases hgx
theorem gAll_br {n T pos : Nat} {word : Nat → Int} {L : List AR} (hp : pos ≤ T) {g : GA} (hg : g ∈ L.flatMap zBr) : gS (n * pos) (n * pos) g ∈ gAll n T word L :=
  List.mem_append.2 (Or.inl (List.mem_flatMap.2 ⟨pos, List.mem_range.2 (by omega), List.mem_map.2 ⟨g, hg, rfl⟩⟩))
theorem gAll_lt {n T pos : Nat} {word : Nat → Int} {L : List AR} (hp : pos < T) {g : GA} (hg : g ∈ L.flatMap (zLt (word pos))) : gS (n * pos) (n * (pos + 1)) g ∈ gAll n T word L :=
  List.mem_append.2 (Or.inr (List.mem_flatMap.2 ⟨pos, List.mem_range.2 (by omega), List.mem_map.2 ⟨g, hg, rfl⟩⟩))
theorem lay_lt {n pos T t : Nat} (hp : pos ≤ T) (ht : t < n) : n * pos + t < n * (T + 1) := by
  have : n * pos ≤ n * T := Nat.mul_le_mul_left n hp
  rw [Nat.mul_add, Nat.mul_one]
  omega
theorem gAll_ok {n T : Nat} {word : Nat → Int} {L : List AR} {m : Int} (hk : okR m L) (hn : n = m.toNat) : ∀ g ∈ gAll n T word L, g.2.2.1 ≤ 18 ∧ g.2.1 < n * (T + 1) := by
  intro g hg
  subst hn
  rcases List.mem_append.1 hg with h | h
  · obtain ⟨pos, hp, h⟩ := List.mem_flatMap.1 h
    obtain ⟨g', hg', rfl⟩ := List.mem_map.1 h
    have q := zBr_lt hk g' hg'
    have := List.mem_range.1 hp
    exact ⟨q.2.2, lay_lt (by omega) q.2.1⟩
  · obtain ⟨pos, hp, h⟩ := List.mem_flatMap.1 h
    obtain ⟨g', hg', rfl⟩ := List.mem_map.1 h
    have q := zLt_lt hk g' hg'
    have := List.mem_range.1 hp
    exact ⟨q.2.2, lay_lt (by omega) q.2.1⟩
/-- labels of ways in the graph are small -/
theorem gAll_bd {n T : Nat} {word : Nat → Int} {L : List AR} {m : Int} {f : Lb} (hk : okR m L) (hn : n = m.toNat) (hn2 : 1 ≤ n ∧ n ≤ 25) (hT : T ≤ 8) (h : GI src0 (gAll n T word L) f) {v : Nat} {x : V3} (hv : f v = some x) : v < n * (T + 1) ∧ x.1 < 5000 ∧ x.2.1 < 230 := by
  have e1 : n * (T + 1) ≤ 225 := by
    have : n * (T + 1) ≤ 25 * 9 := Nat.mul_le_mul hn2.2 (by omega)
    omega
  have e2 : 1 ≤ n * (T + 1) := Nat.mul_pos (by omega) (by omega)
  have s0 : ∀ v x, src0 v = some x → x.1 = 0 ∧ v < n * (T + 1) := fun v x q => by
    obtain ⟨q1, q2⟩ := src0_0 q
    subst q1 q2
    exact ⟨rfl, by omega⟩
  have b1 := GI.bound h s0 (gAll_ok hk hn) hv
  obtain ⟨P, p1, p2⟩ := h.len (fun v x q => (s0 v x q).2) (fun g hg => (gAll_ok hk hn g hg).2) hv
  have b2 := GP.letters (fun v x q => by rw [(src0_0 q).2]) P _ p1
  refine ⟨?_, ?_, ?_⟩
  · obtain ⟨P, p1, p2, p3⟩ := h v x hv
    cases P with
    | nil => exact (s0 _ _ p1).2
    | cons q P =>
      obtain ⟨⟨g, g1, g2, g3, g4⟩, -⟩ := p1
      have g3 : g.2.1 = v := g3
      rw [← g3]
      exact (gAll_ok hk hn g g1).2
  · have : 18 * (n * (T + 1)) ≤ 18 * 225 := Nat.mul_le_mul_left 18 e1
    omega
  · simp only at b2
    omega
theorem lay_inj {n p t p' t' : Nat} (ht : t < n) (ht' : t' < n) (h : n * p + t = n * p' + t') : p = p' ∧ t = t' := by
  have e1 : (n * p + t) / n = p := by rw [Nat.mul_add_div (by omega), Nat.div_eq_of_lt ht]; rfl
  have e2 : (n * p' + t') / n = p' := by rw [Nat.mul_add_div (by omega), Nat.div_eq_of_lt ht']; rfl
  have e3 : p = p' := by rw [← e1, ← e2, h]
  subst e3
  exact ⟨rfl, by omega⟩
theorem exW (x : AR) (k k' : Nat) (y : V3) : ex (gS k k' (zW x)) y = exA x y := rfl
theorem gAll_Rd {n T : Nat} {word : Nat → Int} {L : List AR} {m : Int} (hk : okR m L) (hn : n = m.toNat) (hm : 1 ≤ m) {v : Nat} {x : V3} (h : Der src0 (gAll n T word L) v x) : ∃ t pos : Nat, v = n * pos + t ∧ t < n ∧ pos ≤ T ∧ Rd L T word t pos x := by
  refine h (fun v x => ∃ t pos : Nat, v = n * pos + t ∧ t < n ∧ pos ≤ T ∧ Rd L T word t pos x) (fun u y hu => ?_) (fun g hg y hy => ?_)
  · obtain ⟨h1, h2⟩ := src0_0 hu
    subst h1 h2
    exact ⟨0, 0, rfl, by omega, by omega, Rd.start⟩
  · obtain ⟨t, pos, h1, h2, h3, h4⟩ := hy
    rcases List.mem_append.1 hg with h | h
    · obtain ⟨p, hp, h⟩ := List.mem_flatMap.1 h
      obtain ⟨g', hg', rfl⟩ := List.mem_map.1 h
      have q := zBr_lt hk g' hg'
      have hp := List.mem_range.1 hp
      obtain ⟨a, ha, hga⟩ := List.mem_flatMap.1 hg'
      unfold zBr at hga
      split at hga
      · next e4 =>
        rw [List.mem_singleton.1 hga] at h1 q ⊢
        simp only [gS, zW] at h1 q
        obtain ⟨i1, i2⟩ := lay_inj (by omega) h2 h1
        subst i1 i2
        refine ⟨a.2.1.toNat, p, rfl, by omega, by omega, ?_⟩
        rw [exW]
        exact h4.breath ha e4
      · cases hga
    · obtain ⟨p, hp, h⟩ := List.mem_flatMap.1 h
      obtain ⟨g', hg', rfl⟩ := List.mem_map.1 h
      have q := zLt_lt hk g' hg'
      have hp := List.mem_range.1 hp
      obtain ⟨a, ha, hga⟩ := List.mem_flatMap.1 hg'
      unfold zLt at hga
      split at hga
      · next e4 =>
        rw [List.mem_singleton.1 hga] at h1 q ⊢
        simp only [gS, zW] at h1 q
        obtain ⟨i1, i2⟩ := lay_inj (by omega) h2 h1
        subst i1 i2
        refine ⟨a.2.1.toNat, p + 1, rfl, by omega, by omega, ?_⟩
        rw [exW]
        exact h4.letter ha e4.1 (by omega) e4.2.symm
      · cases hga
theorem Rd_gAll {n T : Nat} {word : Nat → Int} {L : List AR} {m : Int} (hk : okR m L) (hn : n = m.toNat) (hm : 1 ≤ m) {t pos : Nat} {x : V3} (h : Rd L T word t pos x) : t < n ∧ pos ≤ T ∧ Der src0 (gAll n T word L) (n * pos + t) x := by
  refine h (fun t pos x => t < n ∧ pos ≤ T ∧ Der src0 (gAll n T word L) (n * pos + t) x) ⟨by omega, by omega, fun R h0 _ => h0 _ _ rfl⟩ (fun a ha pos y hy => ⟨fun h4 => ?_, fun h4 hp hw => ?_⟩)
  · have := hk a ha
    refine ⟨by omega, hy.2.1, fun R h0 hR => ?_⟩
    exact hR (gS (n * pos) (n * pos) (zW a)) (gAll_br hy.2.1 (List.mem_flatMap.2 ⟨a, ha, by unfold zBr; rw [if_pos h4]; exact List.mem_singleton.2 rfl⟩)) y (hy.2.2 R h0 hR)
  · have := hk a ha
    refine ⟨by omega, by omega, fun R h0 hR => ?_⟩
    exact hR (gS (n * pos) (n * (pos + 1)) (zW a)) (gAll_lt (by omega) (List.mem_flatMap.2 ⟨a, ha, by unfold zLt; rw [if_pos ⟨h4, hw.symm⟩]; exact List.mem_singleton.2 rfl⟩)) y (hy.2.2 R h0 hR)
theorem Best_C {n T : Nat} {word B : Nat → Int} {L : List AR} {m : Int} {f : Lb} (hk : okR m L) (hn : n = m.toNat) (hm : 1 ≤ m) (hL : Lst src0 (gAll n T word L) f) {r : Option V3}
    (h1 : r = none → ∀ t x, t < n → f (n * T + t) = some x → B t < 0)
    (h2 : ∀ x, r = some x → ∃ t y, t < n ∧ f (n * T + t) = some y ∧ 0 ≤ B t ∧ x = (y.1 + (B t).toNat, y.2) ∧ ∀ u z, u < n → f (n * T + u) = some z → 0 ≤ B u → le3 x (z.1 + (B u).toNat, z.2)) : Best L B T word r := by
  refine ⟨fun x hx => ?_, fun t y hR hB => ?_⟩
  · obtain ⟨t, y, q1, q2, q3, q4, -⟩ := h2 x hx
    obtain ⟨t', pos, w1, w2, w3, w4⟩ := gAll_Rd hk hn hm (hL.1 _ y q2)
    obtain ⟨i1, i2⟩ := lay_inj q1 w2 w1
    subst i1 i2
    exact ⟨t, y, w4, q3, q4⟩
  · obtain ⟨w0, w1, w2⟩ := Rd_gAll hk hn hm hR
    obtain ⟨z, w3, w4⟩ := hL.2 _ _ w2
    rw [show (T : Int).toNat = T by omega] at w3
    cases r with
    | none =>
      have := h1 rfl t z w0 w3
      omega
    | some x =>
      obtain ⟨-, -, -, -, -, -, q5⟩ := h2 x rfl
      have := q5 t z w0 w3 hB
      refine ⟨x, rfl, le3_trans this ?_⟩
      simp only [le3, l3] at w4 ⊢
      omega
