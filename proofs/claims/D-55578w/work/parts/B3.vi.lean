/-! PURE: what may stand in the row still may behind an order; how much it holds -/
set_option maxRecDepth 100000
theorem VI.of {V : Nat → Int} (hc : ∀ r : Int, 0 ≤ r → r ≤ 1 → 1 ≤ V r.toNat ∧ V r.toNat ≤ 5 ∧ 0 ≤ V (2 + r).toNat ∧ V (2 + r).toNat ≤ 12)
    (he : ∀ (r : Int) (t : Nat), 0 ≤ r → r ≤ 1 → t < 5 → -1 ≤ endsR V r t ∧ endsR V r t ≤ 9 ∧ (V r.toNat ≤ t → endsR V r t = -1))
    (ha : ∀ r : Int, 0 ≤ r → r ≤ 1 → ∀ x ∈ arcsV V r, (0 ≤ x.1 ∧ x.1 < V r.toNat) ∧ (0 ≤ x.2.1 ∧ x.2.1 < V r.toNat) ∧ (0 ≤ x.2.2.1 ∧ x.2.2.1 ≤ 4) ∧ (0 ≤ x.2.2.2.1 ∧ x.2.2.2.1 ≤ 4) ∧ (0 ≤ x.2.2.2.2 ∧ x.2.2.2.2 ≤ 9))
    (hk : 0 ≤ V 14 ∧ V 14 ≤ 1000 ∧ 0 ≤ V 15 ∧ V 15 ≤ 1000 ∧ 0 ≤ V 16 ∧ V 16 ≤ 1000) (hs : V 2 + V 3 = V 14 - V 15) : VI V := by
  refine ⟨hc, fun r t h1 h2 h3 h4 => ?_, fun r a h1 h2 h3 h4 => ?_, hk, hs⟩
  · have := he r t.toNat h1 h2 (by omega)
    unfold endsR at this
    rw [show ((t.toNat : Nat) : Int) = t by omega] at this
    exact this
  · have e : ((a.toNat : Nat) : Int) = a := by omega
    have hx := ha r h1 h2 (arcI V r a) (List.mem_of_getElem? (i := a.toNat) (by rw [arcsV_get (by omega), e]))
    exact hx
theorem VI.arcs {V : Nat → Int} (hV : VI V) {r : Int} (h1 : 0 ≤ r) (h2 : r ≤ 1) : ∀ x ∈ arcsV V r, (0 ≤ x.1 ∧ x.1 < V r.toNat) ∧ (0 ≤ x.2.1 ∧ x.2.1 < V r.toNat) ∧ (0 ≤ x.2.2.1 ∧ x.2.2.1 ≤ 4) ∧ (0 ≤ x.2.2.2.1 ∧ x.2.2.2.1 ≤ 4) ∧ (0 ≤ x.2.2.2.2 ∧ x.2.2.2.2 ≤ 9) := fun x hx => by
  have := okR_arcsV hV ⟨h1, h2⟩ x hx
  have := arcsV_9 hV ⟨h1, h2⟩ x hx
  omega
theorem VI.ends {V : Nat → Int} (hV : VI V) {r : Int} (h1 : 0 ≤ r) (h2 : r ≤ 1) {t : Nat} (ht : t < 5) : -1 ≤ endsR V r t ∧ endsR V r t ≤ 9 ∧ (V r.toNat ≤ t → endsR V r t = -1) := hV.2.1 r t h1 h2 (by omega) (by omega)
/-- how much is in the row -/
def rsV (V : Nat → Int) : Int := V 0 + V 1 + V 14 + V 15 + V 16
section BV
variable {V : Nat → Int} {r : Int}
theorem r01 (h : 0 ≤ r ∧ r ≤ 1) : r = 0 ∨ r = 1 := by omega
theorem comes_VI (hV : VI V) (hr : 0 ≤ r ∧ r ≤ 1) (h5 : V r.toNat < 5) : VI (up (up V (4 + 5 * r + V r.toNat).toNat (-1)) r.toNat (V r.toNat + 1)) ∧ rsV (up (up V (4 + 5 * r + V r.toNat).toNat (-1)) r.toNat (V r.toNat + 1)) ≤ rsV V + 1 := by
  have c := hV.1 r hr.1 hr.2
  have low : ∀ k : Nat, k < 4 ∨ 14 ≤ k → k ≠ r.toNat → up (up V (4 + 5 * r + V r.toNat).toNat (-1)) r.toNat (V r.toNat + 1) k = V k := fun k hk hne => by
    rw [up_at, if_neg hne, up_at, if_neg (by omega)]
  have at_r : up (up V (4 + 5 * r + V r.toNat).toNat (-1)) r.toNat (V r.toNat + 1) r.toNat = V r.toNat + 1 := by rw [up_at, if_pos rfl]
  have cnt : ∀ q : Int, 0 ≤ q → q ≤ 1 → V q.toNat ≤ up (up V (4 + 5 * r + V r.toNat).toNat (-1)) r.toNat (V r.toNat + 1) q.toNat ∧ up (up V (4 + 5 * r + V r.toNat).toNat (-1)) r.toNat (V r.toNat + 1) q.toNat ≤ 5 := fun q h1 h2 => by
    have := hV.1 q h1 h2
    by_cases e : q = r
    · subst e; rw [at_r]; omega
    · rw [low q.toNat (by omega) (by omega)]; omega
  refine ⟨VI.of (fun q h1 h2 => ?_) (fun q t h1 h2 ht => ?_) (fun q h1 h2 x hx => ?_) ?_ ?_, ?_⟩
  · have := cnt q h1 h2
    have := hV.1 q h1 h2
    rw [low (2 + q).toNat (by omega) (by omega)]
    omega
  · rw [comes_ends hV hr h5 q ⟨h1, h2⟩ t ht]
    have := hV.ends h1 h2 ht
    have := cnt q h1 h2
    exact ⟨by omega, by omega, fun h => by have := hV.ends h1 h2 ht; exact this.2.2 (by omega)⟩
  · rw [comes_arcs hV hr q ⟨h1, h2⟩] at hx
    have := hV.arcs h1 h2 x hx
    have := cnt q h1 h2
    omega
  · rw [low 14 (by omega) (by omega), low 15 (by omega) (by omega), low 16 (by omega) (by omega)]
    exact hV.2.2.2.1
  · rw [low 14 (by omega) (by omega), low 15 (by omega) (by omega), low 2 (by omega) (by omega), low 3 (by omega) (by omega)]
    exact hV.2.2.2.2
  · unfold rsV
    rw [low 14 (by omega) (by omega), low 15 (by omega) (by omega), low 16 (by omega) (by omega)]
    rcases r01 hr with rfl | rfl
    · rw [low 1 (by omega) (by omega)]
      have e : up (up V (4 + 5 * 0 + V (0 : Int).toNat).toNat (-1)) (0 : Int).toNat (V (0 : Int).toNat + 1) 0 = V 0 + 1 := at_r
      rw [e]; omega
    · rw [low 0 (by omega) (by omega)]
      have e : up (up V (4 + 5 * 1 + V (1 : Int).toNat).toNat (-1)) (1 : Int).toNat (V (1 : Int).toNat + 1) 1 = V 1 + 1 := at_r
      rw [e]; omega
theorem sets_VI {t w : Int} (hV : VI V) (hr : 0 ≤ r ∧ r ≤ 1) (ht : 0 ≤ t ∧ t < V r.toNat) (hw : -1 ≤ w ∧ w ≤ 9) : VI (up V (4 + 5 * r + t).toNat w) ∧ rsV (up V (4 + 5 * r + t).toNat w) ≤ rsV V + 1 := by
  have c := hV.1 r hr.1 hr.2
  refine ⟨hV.setE hr ht hw, ?_⟩
  unfold rsV
  simp only [up_at]
  rw [if_neg (by omega), if_neg (by omega), if_neg (by omega), if_neg (by omega), if_neg (by omega)]
  omega
theorem weighs_VI {a w : Int} (hV : VI V) (hr : 0 ≤ r ∧ r ≤ 1) (ha : 0 ≤ a ∧ a < V (2 + r).toNat) (hw : 0 ≤ w ∧ w ≤ 9) : VI (up V (17 + 60 * r + 5 * a + 4).toNat w) ∧ rsV (up V (17 + 60 * r + 5 * a + 4).toNat w) ≤ rsV V + 1 := by
  have low : ∀ k : Nat, k < 17 → up V (17 + 60 * r + 5 * a + 4).toNat w k = V k := fun k hk => by rw [up_at, if_neg (by omega)]
  refine ⟨VI.of (fun q h1 h2 => ?_) (fun q t h1 h2 ht => ?_) (fun q h1 h2 x hx => ?_) ?_ ?_, ?_⟩
  · rw [low _ (by omega), low _ (by omega)]; exact hV.1 q h1 h2
  · rw [weighs_ends hr ha.1 q ⟨h1, h2⟩ t ht, low _ (by omega)]
    exact hV.ends h1 h2 ht
  · rw [low _ (by omega)]
    by_cases e : q = r
    · subst e
      rw [weighs_arcs hV hr ha] at hx
      rcases List.mem_or_eq_of_mem_set hx with hx | rfl
      · exact hV.arcs h1 h2 x hx
      · have e : ((a.toNat : Nat) : Int) = a := by omega
        have := hV.arcs h1 h2 (arcI V q a) (List.mem_of_getElem? (i := a.toNat) (by rw [arcsV_get (by omega), e]))
        simp only [weA]
        omega
    · have e2 : q = 1 - r := by omega
      rw [e2, weighs_oth hV hr ha, ← e2] at hx
      exact hV.arcs h1 h2 x hx
  · rw [low _ (by omega), low _ (by omega), low _ (by omega)]; exact hV.2.2.2.1
  · rw [low _ (by omega), low _ (by omega), low _ (by omega), low _ (by omega)]; exact hV.2.2.2.2
  · unfold rsV
    rw [low _ (by omega), low _ (by omega), low _ (by omega), low _ (by omega), low _ (by omega)]
    omega
theorem tellV_at {f t h s w : Int} (hV : VI V) (hr : 0 ≤ r ∧ r ≤ 1) {k : Nat} (hk : k < 17) : tellV V r f t h s w k = if k = 14 then V 14 + 1 else if k = (2 + r).toNat then V (2 + r).toNat + 1 else V k := by
  have c := hV.1 r hr.1 hr.2
  unfold tellV
  simp only [up_at]
  by_cases e : k = 14
  · rw [if_pos e, if_pos e]
  · rw [if_neg e, if_neg e]
    by_cases e2 : k = (2 + r).toNat
    · rw [if_pos e2, if_pos e2]
    · rw [if_neg e2, if_neg e2, if_neg (by omega), if_neg (by omega), if_neg (by omega), if_neg (by omega), if_neg (by omega)]
theorem tells_VI {f t h s w : Int} (hV : VI V) (hr : 0 ≤ r ∧ r ≤ 1) (h12 : V (2 + r).toNat < 12) (hf : 0 ≤ f ∧ f < V r.toNat) (ht : 0 ≤ t ∧ t < V r.toNat) (hh : 0 ≤ h ∧ h ≤ 4) (hs : 0 ≤ s ∧ s ≤ 4) (hw : 0 ≤ w ∧ w ≤ 9) (hb : V 14 < 1000) : VI (tellV V r f t h s w) ∧ rsV (tellV V r f t h s w) ≤ rsV V + 1 := by
  have T := fun (k : Nat) (hk : k < 17) => tellV_at (f := f) (t := t) (h := h) (s := s) (w := w) hV hr hk
  refine ⟨VI.of (fun q h1 h2 => ?_) (fun q u h1 h2 hu => ?_) (fun q h1 h2 x hx => ?_) ?_ ?_, ?_⟩
  · have c := hV.1 q h1 h2
    rw [T _ (by omega), T _ (by omega), if_neg (by omega), if_neg (by omega), if_neg (by omega)]
    by_cases e : q = r
    · subst e; rw [if_pos rfl]; omega
    · rw [if_neg (by omega)]; omega
  · rw [tells_ends hV hr q ⟨h1, h2⟩ u hu, T _ (by omega), if_neg (by omega), if_neg (by omega)]
    exact hV.ends h1 h2 hu
  · rw [T _ (by omega), if_neg (by omega), if_neg (by omega)]
    by_cases e : q = r
    · subst e
      rw [tells_arcs hV hr h12] at hx
      rcases List.mem_append.1 hx with hx | hx
      · exact hV.arcs h1 h2 x hx
      · rw [List.mem_singleton.1 hx]
        exact ⟨hf, ht, hh, hs, hw⟩
    · have e2 : q = 1 - r := by omega
      rw [e2, tells_oth hV hr h12, ← e2] at hx
      exact hV.arcs h1 h2 x hx
  · have c := hV.2.2.2.1
    rw [T _ (by omega), T _ (by omega), T _ (by omega), if_pos rfl, if_neg (by omega), if_neg (by omega), if_neg (by omega), if_neg (by omega)]
    omega
  · have c := hV.2.2.2.2
    rcases r01 hr with rfl | rfl
    · have t2 : tellV V 0 f t h s w 2 = V 2 + 1 := T 2 (by omega)
      have t3 : tellV V 0 f t h s w 3 = V 3 := T 3 (by omega)
      have t14 : tellV V 0 f t h s w 14 = V 14 + 1 := T 14 (by omega)
      have t15 : tellV V 0 f t h s w 15 = V 15 := T 15 (by omega)
      rw [t2, t3, t14, t15]; omega
    · have t2 : tellV V 1 f t h s w 2 = V 2 := T 2 (by omega)
      have t3 : tellV V 1 f t h s w 3 = V 3 + 1 := T 3 (by omega)
      have t14 : tellV V 1 f t h s w 14 = V 14 + 1 := T 14 (by omega)
      have t15 : tellV V 1 f t h s w 15 = V 15 := T 15 (by omega)
      rw [t2, t3, t14, t15]; omega
  · unfold rsV
    rcases r01 hr with rfl | rfl
    · have t0 : tellV V 0 f t h s w 0 = V 0 := T 0 (by omega)
      have t1 : tellV V 0 f t h s w 1 = V 1 := T 1 (by omega)
      have t14 : tellV V 0 f t h s w 14 = V 14 + 1 := T 14 (by omega)
      have t15 : tellV V 0 f t h s w 15 = V 15 := T 15 (by omega)
      have t16 : tellV V 0 f t h s w 16 = V 16 := T 16 (by omega)
      rw [t0, t1, t14, t15, t16]; omega
    · have t0 : tellV V 1 f t h s w 0 = V 0 := T 0 (by omega)
      have t1 : tellV V 1 f t h s w 1 = V 1 := T 1 (by omega)
      have t14 : tellV V 1 f t h s w 14 = V 14 + 1 := T 14 (by omega)
      have t15 : tellV V 1 f t h s w 15 = V 15 := T 15 (by omega)
      have t16 : tellV V 1 f t h s w 16 = V 16 := T 16 (by omega)
      rw [t0, t1, t14, t15, t16]; omega
theorem dropV_at {a : Int} (hr : 0 ≤ r ∧ r ≤ 1) (ha : 0 ≤ a) {k : Nat} (hk : k < 17) : dropV V r a k = if k = 15 then V 15 + 1 else if k = (2 + r).toNat then V (2 + r).toNat - 1 else V k := by
  unfold dropV
  simp only [up_at, shf]
  by_cases e : k = 15
  · rw [if_pos e, if_pos e]
  · rw [if_neg e, if_neg e]
    by_cases e2 : k = (2 + r).toNat
    · rw [if_pos e2, if_pos e2]
    · rw [if_neg e2, if_neg e2, if_neg (by omega)]
theorem drops_VI {a : Int} (hV : VI V) (hr : 0 ≤ r ∧ r ≤ 1) (ha : 0 ≤ a ∧ a < V (2 + r).toNat) : VI (dropV V r a) ∧ rsV (dropV V r a) ≤ rsV V + 1 := by
  have T := fun (k : Nat) (hk : k < 17) => dropV_at (V := V) (a := a) hr ha.1 hk
  have c2 := hV.1 0 (by omega) (by omega)
  have c3 := hV.1 1 (by omega) (by omega)
  simp only [Int.reduceToNat, Int.reduceAdd] at c2 c3
  have sum := hV.2.2.2.2
  have pos : 1 ≤ V 2 + V 3 := by
    rcases r01 hr with rfl | rfl
    · have e : (2 + (0 : Int)).toNat = 2 := rfl
      rw [e] at ha; omega
    · have e : (2 + (1 : Int)).toNat = 3 := rfl
      rw [e] at ha; omega
  refine ⟨VI.of (fun q h1 h2 => ?_) (fun q u h1 h2 hu => ?_) (fun q h1 h2 x hx => ?_) ?_ ?_, ?_⟩
  · have c := hV.1 q h1 h2
    rw [T _ (by omega), T _ (by omega), if_neg (by omega), if_neg (by omega), if_neg (by omega)]
    by_cases e : q = r
    · subst e; rw [if_pos rfl]; omega
    · rw [if_neg (by omega)]; omega
  · rw [drops_ends hr ha.1 q ⟨h1, h2⟩ u hu, T _ (by omega), if_neg (by omega), if_neg (by omega)]
    exact hV.ends h1 h2 hu
  · rw [T _ (by omega), if_neg (by omega), if_neg (by omega)]
    by_cases e : q = r
    · subst e
      rw [drops_arcs hV hr ha] at hx
      exact hV.arcs h1 h2 x (List.mem_of_mem_eraseIdx hx)
    · have e2 : q = 1 - r := by omega
      rw [e2, drops_oth hV hr ha, ← e2] at hx
      exact hV.arcs h1 h2 x hx
  · have c := hV.2.2.2.1
    rw [T _ (by omega), T _ (by omega), T _ (by omega), if_neg (by omega), if_neg (by omega), if_pos rfl, if_neg (by omega), if_neg (by omega)]
    omega
  · have c := hV.2.2.2.2
    rcases r01 hr with rfl | rfl
    · have t2 : dropV V 0 a 2 = V 2 - 1 := T 2 (by omega)
      have t3 : dropV V 0 a 3 = V 3 := T 3 (by omega)
      have t14 : dropV V 0 a 14 = V 14 := T 14 (by omega)
      have t15 : dropV V 0 a 15 = V 15 + 1 := T 15 (by omega)
      rw [t2, t3, t14, t15]; omega
    · have t2 : dropV V 1 a 2 = V 2 := T 2 (by omega)
      have t3 : dropV V 1 a 3 = V 3 - 1 := T 3 (by omega)
      have t14 : dropV V 1 a 14 = V 14 := T 14 (by omega)
      have t15 : dropV V 1 a 15 = V 15 + 1 := T 15 (by omega)
      rw [t2, t3, t14, t15]; omega
  · unfold rsV
    rcases r01 hr with rfl | rfl
    · have t0 : dropV V 0 a 0 = V 0 := T 0 (by omega)
      have t1 : dropV V 0 a 1 = V 1 := T 1 (by omega)
      have t14 : dropV V 0 a 14 = V 14 := T 14 (by omega)
      have t15 : dropV V 0 a 15 = V 15 + 1 := T 15 (by omega)
      have t16 : dropV V 0 a 16 = V 16 := T 16 (by omega)
      rw [t0, t1, t14, t15, t16]; omega
    · have t0 : dropV V 1 a 0 = V 0 := T 0 (by omega)
      have t1 : dropV V 1 a 1 = V 1 := T 1 (by omega)
      have t14 : dropV V 1 a 14 = V 14 := T 14 (by omega)
      have t15 : dropV V 1 a 15 = V 15 + 1 := T 15 (by omega)
      have t16 : dropV V 1 a 16 = V 16 := T 16 (by omega)
      rw [t0, t1, t14, t15, t16]; omega
theorem turnV_at (hV : VI V) (hr : 0 ≤ r ∧ r ≤ 1) {k : Nat} (hk : k < 17) : turnV V r k = if k = 16 then V 16 + 1 else V k := by
  unfold turnV
  rw [up_at, swp_at V r hr.1 _ k (Or.inl hk)]
theorem turns_VI (hV : VI V) (hr : 0 ≤ r ∧ r ≤ 1) (hb : V 16 < 1000) : VI (turnV V r) ∧ rsV (turnV V r) ≤ rsV V + 1 := by
  have T := fun (k : Nat) (hk : k < 17) => turnV_at hV hr hk
  refine ⟨VI.of (fun q h1 h2 => ?_) (fun q u h1 h2 hu => ?_) (fun q h1 h2 x hx => ?_) ?_ ?_, ?_⟩
  · rw [T _ (by omega), T _ (by omega), if_neg (by omega), if_neg (by omega)]
    exact hV.1 q h1 h2
  · rw [turns_ends hV hr q ⟨h1, h2⟩ u hu, T _ (by omega), if_neg (by omega)]
    exact hV.ends h1 h2 hu
  · rw [T _ (by omega), if_neg (by omega)]
    by_cases e : q = r
    · subst e
      rw [turns_arcs hV hr] at hx
      obtain ⟨y, hy, rfl⟩ := List.mem_map.1 hx
      have := hV.arcs h1 h2 y hy
      simp only [tuA]
      omega
    · have e2 : q = 1 - r := by omega
      rw [e2, turns_oth hV hr, ← e2] at hx
      exact hV.arcs h1 h2 x hx
  · have c := hV.2.2.2.1
    rw [T _ (by omega), T _ (by omega), T _ (by omega), if_neg (by omega), if_neg (by omega), if_pos rfl]
    omega
  · have c := hV.2.2.2.2
    rw [T _ (by omega), T _ (by omega), T _ (by omega), T _ (by omega), if_neg (by omega), if_neg (by omega), if_neg (by omega), if_neg (by omega)]
    exact c
  · unfold rsV
    rw [T _ (by omega), T _ (by omega), T _ (by omega), T _ (by omega), T _ (by omega), if_neg (by omega), if_neg (by omega), if_neg (by omega), if_neg (by omega), if_pos rfl]
    omega
/-! the orders -/
theorem rs_lt (hV : VI V) (hb : rsV V ≤ 900) : V 14 < 1000 ∧ V 16 < 1000 := by
  have c2 := hV.1 0 (by omega) (by omega)
  have c3 := hV.1 1 (by omega) (by omega)
  simp only [Int.reduceToNat, Int.reduceAdd] at c2 c3
  have c := hV.2.2.2.1
  unfold rsV at hb
  omega
/-- what an order leaves -/
def okO (V : Nat → Int) (o : OR) : Prop := (o.1 = -14 ∨ o.1 = -11 ∨ o.1 = -12 ∨ (0 ≤ o.1 ∧ o.1 < 1000)) ∧ (0 ≤ o.1 → VI o.2.2.2 ∧ rsV o.2.2.2 ≤ rsV V + 1) ∧ (o.1 = -14 → (1 ≤ o.2.1 ∧ o.2.1 ≤ 5) ∧ 0 ≤ o.2.2.1 ∧ o.2.2.1 ≤ 100)
theorem pComes_ok (hV : VI V) (r : Int) : okO V (pComes V r) := by
  refine ⟨pComes_code hV r, fun h => ?_, fun h => ?_⟩
  · unfold pComes at h ⊢
    split at h
    · simp only at h; omega
    · rename_i c
      have c : 0 ≤ r ∧ r ≤ 1 := by omega
      split at h
      · simp only at h; omega
      · rename_i c2
        have v := hV.1 r c.1 c.2
        rw [if_neg (by omega), if_neg c2]
        exact comes_VI hV c (by omega)
  · unfold pComes at h ⊢
    split at h
    · simp only at h; omega
    · rename_i c
      split at h
      · rename_i c2
        rw [if_neg c, if_pos c2]
        simp only; omega
      · have v := hV.1 r (by omega) (by omega)
        simp only at h; omega
theorem pSets_ok (hV : VI V) (r t w : Int) : okO V (pSets V r t w) := by
  refine ⟨pSets_code hV r t w, fun h => ?_, fun h => ?_⟩
  · unfold pSets at h ⊢
    split at h
    · simp only at h; omega
    · rename_i c
      split at h
      · simp only at h; omega
      · rename_i c2
        split at h
        · simp only at h; omega
        · rename_i c3
          rw [if_neg c, if_neg c2, if_neg c3]
          exact sets_VI hV (by omega) (by omega) (by omega)
  · unfold pSets at h ⊢
    split at h
    · simp only at h; omega
    · rename_i c
      split at h
      · simp only at h; omega
      · rename_i c2
        split at h
        · rename_i c3
          rw [if_neg c, if_neg c2, if_pos c3]
          have v := hV.1 r (by omega) (by omega)
          simp only; omega
        · have := pEnds_nn (up V (4 + 5 * r + t).toNat w) r
          simp only at h; omega
theorem pTells_ok (hV : VI V) (hb : rsV V ≤ 900) (r f t h s w : Int) : okO V (pTells V r f t h s w) := by
  have lt := rs_lt hV hb
  refine ⟨pTells_code hV r f t h s w, fun hh => ?_, fun hh => ?_⟩
  · unfold pTells at hh ⊢
    split at hh
    · simp only at hh; omega
    · rename_i c
      split at hh
      · simp only at hh; omega
      · rename_i c2
        split at hh
        · simp only at hh; omega
        · rename_i c3
          split at hh
          · simp only at hh; omega
          · rename_i c4
            rw [if_neg c, if_neg c2, if_neg c3, if_neg c4]
            have v := hV.1 r (by omega) (by omega)
            exact tells_VI hV (by omega) (by omega) (by omega) (by omega) (by omega) (by omega) (by omega) lt.1
  · unfold pTells at hh ⊢
    split at hh
    · simp only at hh; omega
    · rename_i c
      have v := hV.1 r (by omega) (by omega)
      split at hh
      · simp only at hh; omega
      · rename_i c2
        split at hh
        · rename_i c3
          rw [if_neg c, if_neg c2, if_pos c3]
          have g : pLike V r f t h s < (V (2 + r).toNat).toNat := (fs_ge _).2
          simp only; omega
        · rename_i c3
          split at hh
          · rename_i c4
            rw [if_neg c, if_neg c2, if_neg c3, if_pos c4]
            simp only; omega
          · simp only at hh; omega
theorem pWeighs_ok (hV : VI V) (r a w : Int) : okO V (pWeighs V r a w) := by
  refine ⟨pWeighs_code hV r a w, fun hh => ?_, fun hh => ?_⟩
  · unfold pWeighs at hh ⊢
    split at hh
    · simp only at hh; omega
    · rename_i c
      split at hh
      · simp only at hh; omega
      · rename_i c2
        split at hh
        · simp only at hh; omega
        · rename_i c3
          rw [if_neg c, if_neg c2, if_neg c3]
          exact weighs_VI hV (by omega) (by omega) (by omega)
  · unfold pWeighs at hh ⊢
    split at hh
    · simp only at hh; omega
    · rename_i c
      have v := hV.1 r (by omega) (by omega)
      split at hh
      · simp only at hh; omega
      · rename_i c2
        split at hh
        · rename_i c3
          rw [if_neg c, if_neg c2, if_pos c3]
          simp only; omega
        · have := hV.2.2.1 r a (by omega) (by omega) (by omega) (by omega)
          simp only at hh; omega
theorem pDrops_ok (hV : VI V) (r a : Int) : okO V (pDrops V r a) := by
  refine ⟨pDrops_code hV r a, fun hh => ?_, fun hh => ?_⟩
  · unfold pDrops at hh ⊢
    split at hh
    · simp only at hh; omega
    · rename_i c
      rw [if_neg c]
      exact drops_VI hV (by omega) (by omega)
  · unfold pDrops at hh ⊢
    split at hh
    · simp only at hh; omega
    · rename_i c
      have v := hV.1 r (by omega) (by omega)
      simp only at hh; omega
theorem pTurns_ok (hV : VI V) (hb : rsV V ≤ 900) (r : Int) : okO V (pTurns V r) := by
  have lt := rs_lt hV hb
  have nn : ∀ n : Nat, 0 ≤ pUnlike V r n := fun n => (sm_le (b := 1) (n := n) (fun k _ => bI_0 _)).1
  refine ⟨pTurns_code hV r, fun hh => ?_, fun hh => ?_⟩
  · unfold pTurns at hh ⊢
    split at hh
    · simp only at hh; omega
    · rename_i c
      split at hh
      · simp only at hh; omega
      · rename_i c2
        rw [if_neg c, if_neg c2]
        exact turns_VI hV (by omega) lt.2
  · unfold pTurns at hh ⊢
    split at hh
    · simp only at hh; omega
    · rename_i c
      have v := hV.1 r (by omega) (by omega)
      split at hh
      · rename_i c2
        rw [if_neg c, if_pos c2]
        simp only; omega
      · have := nn (V (2 + r).toNat).toNat
        simp only at hh; omega
theorem pCmd_ok (hV : VI V) (hb : rsV V ≤ 900) (c : Cmd) : okO V (pCmd V c) := by
  unfold pCmd
  split
  · exact pComes_ok hV _
  · split
    · exact pSets_ok hV _ _ _
    · split
      · exact pTells_ok hV hb _ _ _ _ _ _
      · split
        · exact pWeighs_ok hV _ _ _
        · split
          · exact pDrops_ok hV _ _
          · exact pTurns_ok hV hb _
/-- what a list of orders leaves -/
theorem exec_ok : ∀ (L : List Cmd) (V : Nat → Int) (k : Nat), VI V → rsV V + L.length ≤ 900 → match exec V L k with
    | .inl V' => VI V' ∧ rsV V' ≤ rsV V + L.length
    | .inr (j, o) => k ≤ j ∧ j < k + L.length ∧ (o.1 = -14 ∨ o.1 = -11 ∨ o.1 = -12) ∧ (o.1 = -14 → (1 ≤ o.2.1 ∧ o.2.1 ≤ 5) ∧ 0 ≤ o.2.2.1 ∧ o.2.2.1 ≤ 100)
  | [], V, k, hV, hb => ⟨hV, by simp⟩
  | c :: L, V, k, hV, hb => by
    simp only [List.length_cons] at hb
    have o := pCmd_ok hV (by omega) c
    simp only [exec]
    by_cases e : (pCmd V c).1 < 0
    · rw [if_pos e]
      simp only [List.length_cons]
      have o1 := o.1
      exact ⟨by omega, by omega, by omega, o.2.2⟩
    · rw [if_neg e]
      have o2 := o.2.1 (by omega)
      have ih := exec_ok L (pCmd V c).2.2.2 (k + 1) o2.1 (by omega)
      simp only [List.length_cons]
      rcases hx : exec (pCmd V c).2.2.2 L (k + 1) with V' | ⟨j, o'⟩
      · rw [hx] at ih
        exact ⟨ih.1, by have := ih.2; omega⟩
      · rw [hx] at ih
        exact ⟨by have := ih.1; omega, by have := ih.2.1; omega, ih.2.2⟩
end BV
