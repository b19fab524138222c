/-! PURE: how the orders change the lists of arcs and the ends -/
set_option maxRecDepth 100000
theorem arcN_len (V : Nat → Int) (r : Int) (n : Nat) : (arcN V r n).length = n := by simp [arcN]
theorem arcN_get {V : Nat → Int} {r : Int} {n j : Nat} (h : j < n) : (arcN V r n)[j]? = some (arcI V r j) := by
  simp [arcN, List.getElem?_range h]
theorem arcsV_len (V : Nat → Int) (r : Int) : (arcsV V r).length = (V (2 + r).toNat).toNat := arcN_len _ _ _
theorem arcsV_get {V : Nat → Int} {r : Int} {j : Nat} (h : j < (V (2 + r).toNat).toNat) : (arcsV V r)[j]? = some (arcI V r j) := arcN_get h
theorem arcsV_ext {V : Nat → Int} {r : Int} {L : List AR} (hl : L.length = (V (2 + r).toNat).toNat) (h : ∀ j, j < L.length → L[j]? = some (arcI V r j)) : arcsV V r = L := by
  apply List.ext_getElem?
  intro j
  by_cases e : j < L.length
  · rw [h j e, arcsV_get (by omega)]
  · rw [List.getElem?_eq_none (by rw [arcsV_len]; omega), List.getElem?_eq_none (by omega)]
theorem arcI_eq {V V' : Nat → Int} {r a r' a' : Int} (h : ∀ i : Nat, i < 5 → V (17 + 60 * r + 5 * a + i).toNat = V' (17 + 60 * r' + 5 * a' + i).toNat) : arcI V r a = arcI V' r' a' := by
  have h0 := h 0 (by omega)
  have h1 := h 1 (by omega)
  have h2 := h 2 (by omega)
  have h3 := h 3 (by omega)
  have h4 := h 4 (by omega)
  unfold arcI
  rw [show ((17 + 60 * r + 5 * a).toNat) = (17 + 60 * r + 5 * a + (0 : Nat)).toNat by simp, show ((17 + 60 * r' + 5 * a').toNat) = (17 + 60 * r' + 5 * a' + (0 : Nat)).toNat by simp, h0]
  have c1 : V (17 + 60 * r + 5 * a + 1).toNat = V' (17 + 60 * r' + 5 * a' + 1).toNat := h1
  have c2 : V (17 + 60 * r + 5 * a + 2).toNat = V' (17 + 60 * r' + 5 * a' + 2).toNat := h2
  have c3 : V (17 + 60 * r + 5 * a + 3).toNat = V' (17 + 60 * r' + 5 * a' + 3).toNat := h3
  have c4 : V (17 + 60 * r + 5 * a + 4).toNat = V' (17 + 60 * r' + 5 * a' + 4).toNat := h4
  rw [c1, c2, c3, c4]
theorem arcsV_same {V V' : Nat → Int} {r : Int} (h0 : V' (2 + r).toNat = V (2 + r).toNat) (h : ∀ j i : Nat, (j : Int) < V (2 + r).toNat → i < 5 → V' (17 + 60 * r + 5 * j + i).toNat = V (17 + 60 * r + 5 * j + i).toNat) : arcsV V' r = arcsV V r :=
  arcsV_ext (by rw [arcsV_len, h0]) (fun j hj => by
    rw [arcsV_len] at hj
    rw [arcsV_get hj, arcI_eq (fun i hi => h j i (by omega) hi)])
/-- the other rule -/
def oth (r : Int) : Int := 1 - r
section PV
variable {V : Nat → Int} {r : Int}
theorem comes_arcs (hV : VI V) (hr : 0 ≤ r ∧ r ≤ 1) (q : Int) (hq : 0 ≤ q ∧ q ≤ 1) : arcsV (up (up V (4 + 5 * r + V r.toNat).toNat (-1)) r.toNat (V r.toNat + 1)) q = arcsV V q := by
  have b := hV.1 r hr.1 hr.2
  exact arcsV_same (by simp only [up_at]; rw [if_neg (by omega), if_neg (by omega)]) (fun j i _ _ => by simp only [up_at]; rw [if_neg (by omega), if_neg (by omega)])
theorem comes_ends (hV : VI V) (hr : 0 ≤ r ∧ r ≤ 1) (h5 : V r.toNat < 5) (q : Int) (hq : 0 ≤ q ∧ q ≤ 1) (t : Nat) (ht : t < 5) : endsR (up (up V (4 + 5 * r + V r.toNat).toNat (-1)) r.toNat (V r.toNat + 1)) q t = endsR V q t := by
  have b := hV.1 r hr.1 hr.2
  have e := hV.2.1 r (V r.toNat) hr.1 hr.2 (by omega) (by omega)
  simp only [endsR, up_at]
  rw [if_neg (by omega)]
  by_cases c : (4 + 5 * q + (t : Int)).toNat = (4 + 5 * r + V r.toNat).toNat
  · rw [if_pos c, c, e.2.2 (Int.le_refl _)]
  · rw [if_neg c]
theorem sets_arcs {t w : Int} (hr : 0 ≤ r ∧ r ≤ 1) (ht : 0 ≤ t ∧ t < 5) (q : Int) (hq : 0 ≤ q ∧ q ≤ 1) : arcsV (up V (4 + 5 * r + t).toNat w) q = arcsV V q :=
  arcsV_same (by simp only [up_at]; rw [if_neg (by omega)]) (fun j i _ _ => by simp only [up_at]; rw [if_neg (by omega)])
theorem sets_ends {t w : Int} (hr : 0 ≤ r ∧ r ≤ 1) (ht : 0 ≤ t ∧ t < 5) (i : Nat) (hi : i < 5) : endsR (up V (4 + 5 * r + t).toNat w) r i = up (endsR V r) t.toNat w i := by
  simp only [endsR, up_at]
  by_cases c : i = t.toNat
  · rw [if_pos (by omega), if_pos c]
  · rw [if_neg (by omega), if_neg c]
theorem sets_oth {t w : Int} (hr : 0 ≤ r ∧ r ≤ 1) (ht : 0 ≤ t ∧ t < 5) (i : Nat) (hi : i < 5) : endsR (up V (4 + 5 * r + t).toNat w) (1 - r) i = endsR V (1 - r) i := by
  simp only [endsR, up_at]
  rw [if_neg (by omega)]
theorem weighs_arcs {a w : Int} (hV : VI V) (hr : 0 ≤ r ∧ r ≤ 1) (ha : 0 ≤ a ∧ a < V (2 + r).toNat) : arcsV (up V (17 + 60 * r + 5 * a + 4).toNat w) r = (arcsV V r).set a.toNat (weA (arcI V r a) w) := by
  have b := hV.1 r hr.1 hr.2
  refine arcsV_ext (by rw [List.length_set, arcsV_len]; simp only [up_at]; rw [if_neg (by omega)]) (fun j hj => ?_)
  rw [List.length_set] at hj
  rw [List.getElem?_set]
  rw [arcsV_len] at hj ⊢
  by_cases e : a.toNat = j
  · rw [if_pos e, if_pos (by omega)]
    have e' : a = (j : Int) := by omega
    subst e'
    simp only [arcI, weA, up_at]
    rw [if_neg (by omega), if_neg (by omega), if_neg (by omega), if_neg (by omega), if_pos trivial]
  · rw [if_neg e, arcsV_get hj]
    congr 1
    exact arcI_eq (fun i hi => by simp only [up_at]; rw [if_neg (by omega)])
theorem weighs_oth {a w : Int} (hV : VI V) (hr : 0 ≤ r ∧ r ≤ 1) (ha : 0 ≤ a ∧ a < V (2 + r).toNat) : arcsV (up V (17 + 60 * r + 5 * a + 4).toNat w) (1 - r) = arcsV V (1 - r) := by
  have b := hV.1 r hr.1 hr.2
  have b' := hV.1 (1 - r) (by omega) (by omega)
  exact arcsV_same (by simp only [up_at]; rw [if_neg (by omega)]) (fun j i _ _ => by simp only [up_at]; rw [if_neg (by omega)])
theorem weighs_ends {a w : Int} (hr : 0 ≤ r ∧ r ≤ 1) (ha : 0 ≤ a) (q : Int) (hq : 0 ≤ q ∧ q ≤ 1) (i : Nat) (hi : i < 5) : endsR (up V (17 + 60 * r + 5 * a + 4).toNat w) q i = endsR V q i := by
  simp only [endsR, up_at]
  rw [if_neg (by omega)]
/-- the row after an arc was told -/
def tellV (V : Nat → Int) (r f t h s w : Int) : Nat → Int := up (up (up (up (up (up (up V (17 + 60 * r + 5 * V (2 + r).toNat).toNat f) (17 + 60 * r + 5 * V (2 + r).toNat + 1).toNat t) (17 + 60 * r + 5 * V (2 + r).toNat + 2).toNat h) (17 + 60 * r + 5 * V (2 + r).toNat + 3).toNat s) (17 + 60 * r + 5 * V (2 + r).toNat + 4).toNat w) (2 + r).toNat (V (2 + r).toNat + 1)) 14 (V 14 + 1)
theorem tells_arcs {f t h s w : Int} (hV : VI V) (hr : 0 ≤ r ∧ r ≤ 1) (h12 : V (2 + r).toNat < 12) : arcsV (tellV V r f t h s w) r = arcsV V r ++ [(f, t, h, s, w)] := by
  have b := hV.1 r hr.1 hr.2
  have e2 : tellV V r f t h s w (2 + r).toNat = V (2 + r).toNat + 1 := by
    simp only [tellV, up_at]
    rw [if_neg (by omega), if_pos trivial]
  refine arcsV_ext (by rw [List.length_append, arcsV_len, e2]; simp; omega) (fun j hj => ?_)
  rw [List.length_append, arcsV_len] at hj
  rw [List.getElem?_append, arcsV_len]
  by_cases e : j < (V (2 + r).toNat).toNat
  · rw [if_pos e, arcsV_get e]
    congr 1
    refine arcI_eq (fun i hi => ?_)
    simp only [tellV, up_at]
    repeat rw [if_neg (by omega)]
  · have e' : j = (V (2 + r).toNat).toNat := by simp at hj; omega
    have e3 : (j : Int) = V (2 + r).toNat := by omega
    rw [if_neg e, e', Nat.sub_self, ← e', e3]
    simp only [List.getElem?_cons_zero, arcI, tellV, up_at]
    repeat first | rw [if_pos trivial] | rw [if_neg (by omega)]
theorem tells_oth {f t h s w : Int} (hV : VI V) (hr : 0 ≤ r ∧ r ≤ 1) (h12 : V (2 + r).toNat < 12) : arcsV (tellV V r f t h s w) (1 - r) = arcsV V (1 - r) := by
  have b := hV.1 r hr.1 hr.2
  have b' := hV.1 (1 - r) (by omega) (by omega)
  exact arcsV_same (by simp only [tellV, up_at]; repeat rw [if_neg (by omega)]) (fun j i _ _ => by simp only [tellV, up_at]; repeat rw [if_neg (by omega)])
theorem tells_ends {f t h s w : Int} (hV : VI V) (hr : 0 ≤ r ∧ r ≤ 1) (q : Int) (hq : 0 ≤ q ∧ q ≤ 1) (i : Nat) (hi : i < 5) : endsR (tellV V r f t h s w) q i = endsR V q i := by
  have b := hV.1 r hr.1 hr.2
  simp only [endsR, tellV, up_at]
  repeat rw [if_neg (by omega)]
def dropV (V : Nat → Int) (r a : Int) : Nat → Int := up (up (shf V (17 + 60 * r + 5 * a).toNat (17 + 60 * r + 55).toNat) (2 + r).toNat (V (2 + r).toNat - 1)) 15 (V 15 + 1)
theorem drops_arcs {a : Int} (hV : VI V) (hr : 0 ≤ r ∧ r ≤ 1) (ha : 0 ≤ a ∧ a < V (2 + r).toNat) : arcsV (dropV V r a) r = (arcsV V r).eraseIdx a.toNat := by
  have b := hV.1 r hr.1 hr.2
  have e2 : dropV V r a (2 + r).toNat = V (2 + r).toNat - 1 := by
    simp only [dropV, up_at]
    rw [if_neg (by omega), if_pos trivial]
  have hl : ((arcsV V r).eraseIdx a.toNat).length = (V (2 + r).toNat).toNat - 1 := by rw [List.length_eraseIdx_of_lt (by rw [arcsV_len]; omega), arcsV_len]
  refine arcsV_ext (by rw [hl, e2]; omega) (fun j hj => ?_)
  rw [hl] at hj
  rw [List.getElem?_eraseIdx]
  by_cases e : j < a.toNat
  · rw [if_pos e, arcsV_get (by omega)]
    congr 1
    refine arcI_eq (fun i hi => ?_)
    simp only [dropV, up_at, shf]
    rw [if_neg (by omega), if_neg (by omega), if_neg (by omega)]
  · rw [if_neg e, arcsV_get (by omega)]
    congr 1
    refine arcI_eq (fun i hi => ?_)
    simp only [dropV, up_at, shf]
    rw [if_neg (by omega), if_neg (by omega), if_pos (by omega)]
    congr 1
    omega
theorem drops_oth {a : Int} (hV : VI V) (hr : 0 ≤ r ∧ r ≤ 1) (ha : 0 ≤ a ∧ a < V (2 + r).toNat) : arcsV (dropV V r a) (1 - r) = arcsV V (1 - r) := by
  have b := hV.1 r hr.1 hr.2
  have b' := hV.1 (1 - r) (by omega) (by omega)
  exact arcsV_same (by simp only [dropV, up_at, shf]; repeat rw [if_neg (by omega)]) (fun j i _ _ => by simp only [dropV, up_at, shf]; repeat rw [if_neg (by omega)])
theorem drops_ends {a : Int} (hr : 0 ≤ r ∧ r ≤ 1) (ha : 0 ≤ a) (q : Int) (hq : 0 ≤ q ∧ q ≤ 1) (i : Nat) (hi : i < 5) : endsR (dropV V r a) q i = endsR V q i := by
  simp only [endsR, dropV, up_at, shf]
  repeat rw [if_neg (by omega)]
theorem swp_hs (V : Nat → Int) (r : Int) (hr : 0 ≤ r) (n j : Nat) (hj : j < n) (i : Nat) (hi : i < 5) : swp V r n (17 + 60 * r + 5 * j + i).toNat = V (17 + 60 * r + 5 * j + (if i = 2 then 3 else if i = 3 then 2 else i)).toNat := by
  induction n with
  | zero => omega
  | succ n ih =>
    simp only [swp, up_at]
    by_cases e : j = n
    · subst e
      have s0 := swp_at V r hr j
      by_cases c3 : i = 3
      · subst c3
        rw [if_pos (by omega), s0 _ (Or.inr (by omega))]
        rfl
      · rw [if_neg (by omega)]
        by_cases c2 : i = 2
        · subst c2
          rw [if_pos (by omega), s0 _ (Or.inr (by omega))]
          rfl
        · rw [if_neg (by omega), s0 _ (Or.inr (by omega)), if_neg c2, if_neg c3]
    · rw [if_neg (by omega), if_neg (by omega), ih (by omega)]
theorem swp_far (V : Nat → Int) (r : Int) (hr : 0 ≤ r) (n : Nat) (k : Nat) (hk : k < (17 + 60 * r).toNat ∨ (17 + 60 * r + 5 * n).toNat ≤ k) : swp V r n k = V k := by
  induction n with
  | zero => rfl
  | succ n ih =>
    simp only [swp, up_at]
    rw [if_neg (by omega), if_neg (by omega), ih (by omega)]
def turnV (V : Nat → Int) (r : Int) : Nat → Int := up (swp V r (V (2 + r).toNat).toNat) 16 (V 16 + 1)
theorem turns_arcs (hV : VI V) (hr : 0 ≤ r ∧ r ≤ 1) : arcsV (turnV V r) r = (arcsV V r).map tuA := by
  have b := hV.1 r hr.1 hr.2
  have e2 : turnV V r (2 + r).toNat = V (2 + r).toNat := by
    simp only [turnV, up_at]
    rw [if_neg (by omega), swp_far _ _ hr.1 _ _ (Or.inl (by omega))]
  refine arcsV_ext (by rw [List.length_map, arcsV_len, e2]) (fun j hj => ?_)
  rw [List.length_map, arcsV_len] at hj
  rw [List.getElem?_map, arcsV_get hj]
  have g : ∀ i : Nat, i < 5 → turnV V r (17 + 60 * r + 5 * j + i).toNat = V (17 + 60 * r + 5 * j + (if i = 2 then 3 else if i = 3 then 2 else i)).toNat := fun i hi => by
    simp only [turnV, up_at]
    rw [if_neg (by omega), swp_hs V r hr.1 _ j hj i hi]
  have g0 := g 0 (by omega)
  have g1 := g 1 (by omega)
  have g2 := g 2 (by omega)
  have g3 := g 3 (by omega)
  have g4 := g 4 (by omega)
  simp only [Int.natCast_zero, Int.add_zero, Option.map_some, tuA, arcI] at g0 ⊢
  have k0 : turnV V r (17 + 60 * r + 5 * (j : Int)).toNat = V (17 + 60 * r + 5 * (j : Int)).toNat := by simpa using g0
  have k1 : turnV V r (17 + 60 * r + 5 * (j : Int) + 1).toNat = V (17 + 60 * r + 5 * (j : Int) + 1).toNat := by simpa using g1
  have k2 : turnV V r (17 + 60 * r + 5 * (j : Int) + 2).toNat = V (17 + 60 * r + 5 * (j : Int) + 3).toNat := by simpa using g2
  have k3 : turnV V r (17 + 60 * r + 5 * (j : Int) + 3).toNat = V (17 + 60 * r + 5 * (j : Int) + 2).toNat := by simpa using g3
  have k4 : turnV V r (17 + 60 * r + 5 * (j : Int) + 4).toNat = V (17 + 60 * r + 5 * (j : Int) + 4).toNat := by simpa using g4
  rw [k0, k1, k2, k3, k4]
theorem turns_oth (hV : VI V) (hr : 0 ≤ r ∧ r ≤ 1) : arcsV (turnV V r) (1 - r) = arcsV V (1 - r) := by
  have b := hV.1 r hr.1 hr.2
  have b' := hV.1 (1 - r) (by omega) (by omega)
  refine arcsV_same ?_ (fun j i hj hi => ?_)
  · simp only [turnV, up_at]
    rw [if_neg (by omega), swp_far _ _ hr.1 _ _ (Or.inl (by omega))]
  · simp only [turnV, up_at]
    rw [if_neg (by omega), swp_far _ _ hr.1 _ _ (by omega)]
theorem turns_ends (hV : VI V) (hr : 0 ≤ r ∧ r ≤ 1) (q : Int) (hq : 0 ≤ q ∧ q ≤ 1) (i : Nat) (hi : i < 5) : endsR (turnV V r) q i = endsR V q i := by
  simp only [endsR, turnV, up_at]
  rw [if_neg (by omega), swp_far _ _ hr.1 _ _ (Or.inl (by omega))]
end PV
