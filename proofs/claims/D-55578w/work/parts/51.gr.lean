/-! PURE: the arcs of a rule and of both, as lists; how they lie in the model's arrays -/
set_option maxRecDepth 100000
abbrev AR : Type := Int × Int × Int × Int × Int
def arcI (V : Nat → Int) (r a : Int) : AR := (V (17 + 60 * r + 5 * a).toNat, V (17 + 60 * r + 5 * a + 1).toNat, V (17 + 60 * r + 5 * a + 2).toNat, V (17 + 60 * r + 5 * a + 3).toNat, V (17 + 60 * r + 5 * a + 4).toNat)
def arcN (V : Nat → Int) (r : Int) (n : Nat) : List AR := (List.range n).map fun a : Nat => arcI V r a
def arcsV (V : Nat → Int) (r : Int) : List AR := arcN V r (V (2 + r).toNat).toNat
theorem arcN_up (V : Nat → Int) (r : Int) (n : Nat) : arcN V r (n + 1) = arcN V r n ++ [arcI V r n] := by simp [arcN, List.range_succ]
/-- the arcs of both in which arc a of the first rule is: the first n of them -/
def aloneN (pr : Int → Int → Int) (x : AR) (n : Nat) : List AR := (List.range n).map fun q : Nat => (pr x.1 q, pr x.2.1 q, x.2.2.1, 4, x.2.2.2.2)
def withN (pr : Int → Int → Int) (V : Nat → Int) (x : AR) (n : Nat) : List AR := (List.range n).filterMap fun b : Nat => if (arcI V 1 b).2.2.1 = x.2.2.2.1 then some (pr x.1 (arcI V 1 b).1, pr x.2.1 (arcI V 1 b).2.1, x.2.2.1, (arcI V 1 b).2.2.2.1, x.2.2.2.2 + (arcI V 1 b).2.2.2.2) else none
def firstV (pr : Int → Int → Int) (V : Nat → Int) (x : AR) : List AR := if x.2.2.2.1 = 4 then aloneN pr x (V 1).toNat else withN pr V x (V 3).toNat
def firstN (pr : Int → Int → Int) (V : Nat → Int) (n : Nat) : List AR := (List.range n).flatMap fun a : Nat => firstV pr V (arcI V 0 a)
def breathN (pr : Int → Int → Int) (y : AR) (n : Nat) : List AR := (List.range n).map fun p : Nat => (pr p y.1, pr p y.2.1, 4, y.2.2.2.1, y.2.2.2.2)
def secondN (pr : Int → Int → Int) (V : Nat → Int) (n : Nat) : List AR := (List.range n).flatMap fun b : Nat => if (arcI V 1 b).2.2.1 = 4 then breathN pr (arcI V 1 b) (V 0).toNat else []
def bothV (pr : Int → Int → Int) (V : Nat → Int) : List AR := firstN pr V (V 2).toNat ++ secondN pr V (V 3).toNat
theorem aloneN_up (pr : Int → Int → Int) (x : AR) (n : Nat) : aloneN pr x (n + 1) = aloneN pr x n ++ [(pr x.1 n, pr x.2.1 n, x.2.2.1, 4, x.2.2.2.2)] := by simp [aloneN, List.range_succ]
theorem withN_up (pr : Int → Int → Int) (V : Nat → Int) (x : AR) (n : Nat) : withN pr V x (n + 1) = withN pr V x n ++ (if (arcI V 1 n).2.2.1 = x.2.2.2.1 then [(pr x.1 (arcI V 1 n).1, pr x.2.1 (arcI V 1 n).2.1, x.2.2.1, (arcI V 1 n).2.2.2.1, x.2.2.2.2 + (arcI V 1 n).2.2.2.2)] else []) := by
  simp only [withN, List.range_succ, List.filterMap_append]
  congr 1
  by_cases h : (arcI V 1 n).2.2.1 = x.2.2.2.1
  · simp [h]
  · simp [h]
theorem firstN_up (pr : Int → Int → Int) (V : Nat → Int) (n : Nat) : firstN pr V (n + 1) = firstN pr V n ++ firstV pr V (arcI V 0 n) := by simp [firstN, List.range_succ]
theorem breathN_up (pr : Int → Int → Int) (y : AR) (n : Nat) : breathN pr y (n + 1) = breathN pr y n ++ [(pr n y.1, pr n y.2.1, 4, y.2.2.2.1, y.2.2.2.2)] := by simp [breathN, List.range_succ]
theorem secondN_up (pr : Int → Int → Int) (V : Nat → Int) (n : Nat) : secondN pr V (n + 1) = secondN pr V n ++ (if (arcI V 1 n).2.2.1 = 4 then breathN pr (arcI V 1 n) (V 0).toNat else []) := by simp [secondN, List.range_succ]
theorem aloneN_len (pr : Int → Int → Int) (x : AR) (n : Nat) : (aloneN pr x n).length = n := by simp [aloneN]
theorem withN_len (pr : Int → Int → Int) (V : Nat → Int) (x : AR) (n : Nat) : (withN pr V x n).length ≤ n := by
  have := List.length_filterMap_le (fun b : Nat => if (arcI V 1 b).2.2.1 = x.2.2.2.1 then some (pr x.1 (arcI V 1 b).1, pr x.2.1 (arcI V 1 b).2.1, x.2.2.1, (arcI V 1 b).2.2.2.1, x.2.2.2.2 + (arcI V 1 b).2.2.2.2) else none) (List.range n)
  simpa [withN] using this
theorem breathN_len (pr : Int → Int → Int) (y : AR) (n : Nat) : (breathN pr y n).length = n := by simp [breathN]
theorem firstN_len (pr : Int → Int → Int) (V : Nat → Int) (n : Nat) (h1 : (V 1).toNat ≤ 12) (h3 : (V 3).toNat ≤ 12) : (firstN pr V n).length ≤ 12 * n := by
  induction n with
  | zero => simp [firstN]
  | succ n ih =>
    rw [firstN_up, List.length_append]
    have : (firstV pr V (arcI V 0 n)).length ≤ 12 := by
      unfold firstV
      split
      · rw [aloneN_len]; exact h1
      · have := withN_len pr V (arcI V 0 n) (V 3).toNat
        omega
    omega
theorem secondN_len (pr : Int → Int → Int) (V : Nat → Int) (n : Nat) (h0 : (V 0).toNat ≤ 5) : (secondN pr V n).length ≤ 5 * n := by
  induction n with
  | zero => simp [secondN]
  | succ n ih =>
    rw [secondN_up, List.length_append]
    split
    · rw [breathN_len]; omega
    · simp; omega
/-- arcs that lie in the arrays -/
def GArr (A : Nat → Nat → Int) (n : Int) (L : List AR) : Prop := n = L.length ∧ ∀ (k : Nat) (a : AR), L[k]? = some a → A 4 k = a.1 ∧ A 5 k = a.2.1 ∧ A 6 k = a.2.2.1 ∧ A 7 k = a.2.2.2.1 ∧ A 8 k = a.2.2.2.2
def layA (A : Nat → Nat → Int) (k : Nat) (a : AR) : Nat → Nat → Int := up (up (up (up (up A 4 (up (A 4) k a.1)) 5 (up (A 5) k a.2.1)) 6 (up (A 6) k a.2.2.1)) 7 (up (A 7) k a.2.2.2.1)) 8 (up (A 8) k a.2.2.2.2)
theorem GArr.lay {A : Nat → Nat → Int} {n : Int} {L : List AR} (h : GArr A n L) (a : AR) : GArr (layA A n.toNat a) (n + 1) (L ++ [a]) := by
  obtain ⟨h1, h2⟩ := h
  have hn : n.toNat = L.length := by omega
  refine ⟨by simp [h1], fun k b hk => ?_⟩
  rw [List.getElem?_append] at hk
  have e4 : layA A n.toNat a 4 = up (A 4) L.length a.1 := by simp [layA, up_at, hn]
  have e5 : layA A n.toNat a 5 = up (A 5) L.length a.2.1 := by simp [layA, up_at, hn]
  have e6 : layA A n.toNat a 6 = up (A 6) L.length a.2.2.1 := by simp [layA, up_at, hn]
  have e7 : layA A n.toNat a 7 = up (A 7) L.length a.2.2.2.1 := by simp [layA, up_at, hn]
  have e8 : layA A n.toNat a 8 = up (A 8) L.length a.2.2.2.2 := by simp [layA, up_at, hn]
  rw [e4, e5, e6, e7, e8]
  by_cases hk2 : k < L.length
  · rw [if_pos hk2] at hk
    simp only [up_at]
    rw [if_neg (by omega), if_neg (by omega), if_neg (by omega), if_neg (by omega), if_neg (by omega)]
    exact h2 k b hk
  · rw [if_neg hk2] at hk
    have hk3 : k - L.length = 0 := by
      rcases Nat.eq_zero_or_pos (k - L.length) with q | q
      · exact q
      · rw [List.getElem?_eq_none (by simp; omega)] at hk; cases hk
    rw [hk3] at hk
    cases hk
    have : k = L.length := by omega
    subst this
    simp [up_at]
/-- all but some stays -/
def eqS (ks : List Nat) (s s' : Nat → Int) : Prop := ∀ j, j ∉ ks → s' j = s j
def eqA (ks : List Nat) (A A' : Nat → Nat → Int) : Prop := ∀ j, j ∉ ks → A' j = A j
theorem eqS.up {ks : List Nat} {s s' : Nat → Int} (h : eqS ks s s') {k : Nat} (hk : k ∈ ks) (x : Int) : eqS ks s (up s' k x) := by
  intro j hj
  rw [up_at, if_neg (fun e : j = k => hj (by rw [e]; exact hk))]
  exact h j hj
theorem eqA.up {ks : List Nat} {A A' : Nat → Nat → Int} (h : eqA ks A A') {k : Nat} (hk : k ∈ ks) (x : Nat → Int) : eqA ks A (up A' k x) := by
  intro j hj
  rw [up_at, if_neg (fun e : j = k => hj (by rw [e]; exact hk))]
  exact h j hj
theorem eqS.rfl {ks : List Nat} {s : Nat → Int} : eqS ks s s := fun _ _ => Eq.refl _
theorem eqA.rfl {ks : List Nat} {A : Nat → Nat → Int} : eqA ks A A := fun _ _ => Eq.refl _
theorem eqS.tr {ks ls : List Nat} {s s' s'' : Nat → Int} (h : eqS ks s s') (h2 : eqS ls s' s'') (hk : ∀ k ∈ ks, k ∈ ls) : eqS ls s s'' := fun j hj => by rw [h2 j hj, h j (fun q => hj (hk j q))]
theorem eqA.tr {ks ls : List Nat} {A A' A'' : Nat → Nat → Int} (h : eqA ks A A') (h2 : eqA ls A' A'') (hk : ∀ k ∈ ks, k ∈ ls) : eqA ls A A'' := fun j hj => by rw [h2 j hj, h j (fun q => hj (hk j q))]
theorem eqA.lay {A A' : Nat → Nat → Int} (h : eqA [4, 5, 6, 7, 8] A A') (k : Nat) (a : AR) : eqA [4, 5, 6, 7, 8] A (layA A' k a) :=
  ((((h.up (by simp) _).up (by simp) _).up (by simp) _).up (by simp) _).up (by simp) _
