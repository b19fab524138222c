/-! PURE: labels that only say whether -/
set_option maxRecDepth 100000
def toL (b : Nat → Bool) : Lb := fun v => if b v then some (0, 0, 0) else none
theorem toL_none {b : Nat → Bool} {v : Nat} : toL b v = none ↔ b v = false := by unfold toL; cases b v <;> simp
theorem toL_some {b : Nat → Bool} {v : Nat} {x : V3} : toL b v = some x ↔ b v = true ∧ x = (0, 0, 0) := by
  unfold toL; cases b v <;> simp [eq_comm]
theorem toL_inj {b c : Nat → Bool} (h : toL b = toL c) : b = c := by
  funext v
  have := congrFun h v
  unfold toL at this
  cases hb : b v <;> cases hc : c v <;> simp [hb, hc] at this ⊢
theorem less_toL (b : Nat → Bool) (u v : Nat) : less (toL b) (u, v, 0, 9) = (b u && !b v) := by
  unfold less
  show (match toL b u with | none => false | some x => match toL b v with | none => true | some y => decide (l3 (ex (u, v, 0, 9) x) y)) = (b u && !b v)
  cases hu : b u with
  | false => rw [toL_none.2 hu]; rfl
  | true =>
    rw [toL_some.2 ⟨hu, rfl⟩]
    cases hv : b v with
    | false => rw [toL_none.2 hv]; rfl
    | true => rw [toL_some.2 ⟨hv, rfl⟩]; rfl
theorem rlx_toL (b : Nat → Bool) (u v : Nat) : rlx (toL b) (u, v, 0, 9) = toL (up b v (b v || b u)) := by
  unfold rlx
  rw [less_toL]
  show (if (b u && !b v) = true then up (toL b) v ((toL b u).map (ex (u, v, 0, 9))) else toL b) = _
  funext w
  cases hu : b u with
  | false =>
    rw [Bool.or_false, up_self]
    rfl
  | true =>
    rw [toL_some.2 ⟨hu, rfl⟩]
    cases hv : b v with
    | false =>
      simp only [Bool.not_false, Bool.and_self, if_true, up_at, toL]
      by_cases e : w = v
      · simp [e, ex]
      · simp [e]
    | true =>
      simp only [Bool.not_true, Bool.and_false, toL, up_at]
      by_cases e : w = v
      · subst e; simp [hv, toL]
      · simp [e, toL]
def zA (a : AR) : GA := (a.1.toNat, a.2.1.toNat, 0, 9)
def zR (a : AR) : GA := (a.2.1.toNat, a.1.toNat, 0, 9)
def okR (n : Int) (L : List AR) : Prop := ∀ a ∈ L, (0 ≤ a.1 ∧ a.1 < n) ∧ (0 ≤ a.2.1 ∧ a.2.1 < n) ∧ (0 ≤ a.2.2.1 ∧ a.2.2.1 ≤ 4) ∧ (0 ≤ a.2.2.2.1 ∧ a.2.2.2.1 ≤ 4) ∧ (0 ≤ a.2.2.2.2 ∧ a.2.2.2.2 ≤ 18)
theorem pass_take {α : Type} (L : List α) (z : α → GA) {j : Nat} {a : α} (h : L[j]? = some a) (f : Lb) : pass ((L.take (j + 1)).map z) f = rlx (pass ((L.take j).map z) f) (z a) := by
  have hj : j < L.length := by
    rcases Nat.lt_or_ge j L.length with q | q
    · exact q
    · rw [List.getElem?_eq_none q] at h; cases h
  rw [List.take_add_one, h]
  simp [pass, List.foldl_append]
theorem GArr.len {A : Nat → Nat → Int} {n : Int} {L : List AR} (h : GArr A n L) : n = L.length := h.1
theorem getE {α : Type} {L : List α} {j : Nat} (h : j < L.length) : ∃ a, L[j]? = some a ∧ a ∈ L := ⟨L[j], by simp [h], by simp⟩
/-- the sources: the first state; the ends -/
def src0 : Lb := toL (fun v => v == 0)
def endL (n : Int) (B : Nat → Int) : Lb := toL (fun v => decide ((v : Int) < n ∧ 0 ≤ B v))
