/-! PURE: the row of both rules (V), what may stand in it, the orders on it -/
set_option maxRecDepth 100000
/-- field w of arc a of rule r -/
def aF (V : Nat → Int) (r a w : Int) : Int := V (17 + 60 * r + 5 * a + w).toNat
def eF (V : Nat → Int) (r t : Int) : Int := V (4 + 5 * r + t).toNat
def VI (V : Nat → Int) : Prop :=
  (∀ r : Int, 0 ≤ r → r ≤ 1 → 1 ≤ V r.toNat ∧ V r.toNat ≤ 5 ∧ 0 ≤ V (2 + r).toNat ∧ V (2 + r).toNat ≤ 12) ∧
  (∀ r t : Int, 0 ≤ r → r ≤ 1 → 0 ≤ t → t < 5 → -1 ≤ V (4 + 5 * r + t).toNat ∧ V (4 + 5 * r + t).toNat ≤ 9 ∧ (V r.toNat ≤ t → V (4 + 5 * r + t).toNat = -1)) ∧
  (∀ r a : Int, 0 ≤ r → r ≤ 1 → 0 ≤ a → a < V (2 + r).toNat → (0 ≤ V (17 + 60 * r + 5 * a).toNat ∧ V (17 + 60 * r + 5 * a).toNat < V r.toNat) ∧ (0 ≤ V (17 + 60 * r + 5 * a + 1).toNat ∧ V (17 + 60 * r + 5 * a + 1).toNat < V r.toNat) ∧
    (0 ≤ V (17 + 60 * r + 5 * a + 2).toNat ∧ V (17 + 60 * r + 5 * a + 2).toNat ≤ 4) ∧ (0 ≤ V (17 + 60 * r + 5 * a + 3).toNat ∧ V (17 + 60 * r + 5 * a + 3).toNat ≤ 4) ∧ (0 ≤ V (17 + 60 * r + 5 * a + 4).toNat ∧ V (17 + 60 * r + 5 * a + 4).toNat ≤ 9)) ∧
  (0 ≤ V 14 ∧ V 14 ≤ 1000 ∧ 0 ≤ V 15 ∧ V 15 ≤ 1000 ∧ 0 ≤ V 16 ∧ V 16 ≤ 1000) ∧ V 2 + V 3 = V 14 - V 15
/-- sums and first places -/
def sm (f : Nat → Int) : Nat → Int
  | 0 => 0
  | n + 1 => sm f n + f n
theorem sm_le {f : Nat → Int} {b : Int} {n : Nat} (h : ∀ k, k < n → 0 ≤ f k ∧ f k ≤ b) : 0 ≤ sm f n ∧ sm f n ≤ n * b := by
  induction n with
  | zero => simp [sm]
  | succ n ih =>
    have h1 := ih (fun k hk => h k (by omega))
    have h2 := h n (by omega)
    simp only [sm, Int.natCast_add, Int.natCast_one, Int.add_mul, Int.one_mul]
    omega
theorem sm_congr {f g : Nat → Int} {n : Nat} (h : ∀ k, k < n → f k = g k) : sm f n = sm g n := by
  induction n with
  | zero => rfl
  | succ n ih => simp only [sm]; rw [ih (fun k hk => h k (by omega)), h n (by omega)]
/-- the first k below n with p, or -1 -/
def fs (p : Nat → Prop) [DecidablePred p] : Nat → Int
  | 0 => -1
  | n + 1 => if fs p n = -1 then (if p n then n else -1) else fs p n
theorem fs_ge {p : Nat → Prop} [DecidablePred p] (n : Nat) : -1 ≤ fs p n ∧ fs p n < n := by
  induction n with
  | zero => simp [fs]
  | succ n ih =>
    simp only [fs]
    split
    · split <;> omega
    · omega
theorem fs_stay {p : Nat → Prop} [DecidablePred p] {k n : Nat} (h : fs p k ≠ -1) (hn : k ≤ n) : fs p n = fs p k := by
  induction n with
  | zero => have : k = 0 := by omega
            subst this; rfl
  | succ n ih =>
    rcases Nat.lt_or_ge n k with q | q
    · have : k = n + 1 := by omega
      subst this; rfl
    · have e := ih q
      simp only [fs]; rw [if_neg (by rw [e]; exact h), e]
/-! the orders: code, reason, detail, the row after it -/
abbrev OR : Type := Int × Int × Int × (Nat → Int)
def pComes (V : Nat → Int) (r : Int) : OR :=
  if ¬(0 ≤ r ∧ r ≤ 1) then (-11, 0, 0, V)
  else if V r.toNat = 5 then (-14, 1, 5, V)
  else (V r.toNat, 0, 0, up (up V (4 + 5 * r + V r.toNat).toNat (-1)) r.toNat (V r.toNat + 1))
def pEnds (V : Nat → Int) (r : Int) : Int := sm (fun t => bI (¬ V (4 + 5 * r + t).toNat < 0)) (V r.toNat).toNat
def pSets (V : Nat → Int) (r t w : Int) : OR :=
  if ¬((0 ≤ r ∧ r ≤ 1) ∧ 0 ≤ t ∧ t ≤ V r.toNat - 1) then (-11, 0, 0, V)
  else if ¬(-1 ≤ w ∧ w ≤ 9) then (-12, 0, 0, V)
  else if V (4 + 5 * r + t).toNat = w then (-14, 3, t, V)
  else (pEnds (up V (4 + 5 * r + t).toNat w) r, 0, 0, up V (4 + 5 * r + t).toNat w)
def pLike (V : Nat → Int) (r f t h s : Int) : Int :=
  fs (fun a => V (17 + 60 * r + 5 * a).toNat = f ∧ V (17 + 60 * r + 5 * a + 1).toNat = t ∧ V (17 + 60 * r + 5 * a + 2).toNat = h ∧ V (17 + 60 * r + 5 * a + 3).toNat = s) (V (2 + r).toNat).toNat
def pTells (V : Nat → Int) (r f t h s w : Int) : OR :=
  if ¬((0 ≤ r ∧ r ≤ 1) ∧ 0 ≤ f ∧ f ≤ V r.toNat - 1) ∨ ¬((0 ≤ r ∧ r ≤ 1) ∧ 0 ≤ t ∧ t ≤ V r.toNat - 1) then (-11, 0, 0, V)
  else if ¬(0 ≤ h ∧ h ≤ 4) ∨ ¬(0 ≤ s ∧ s ≤ 4) ∨ ¬(0 ≤ w ∧ w ≤ 9) then (-12, 0, 0, V)
  else if 0 ≤ pLike V r f t h s then (-14, 2, pLike V r f t h s, V)
  else if V (2 + r).toNat = 12 then (-14, 1, 12, V)
  else (V (2 + r).toNat, 0, 0, up (up (up (up (up (up (up V (17 + 60 * r + 5 * V (2 + r).toNat).toNat f) (17 + 60 * r + 5 * V (2 + r).toNat + 1).toNat t) (17 + 60 * r + 5 * V (2 + r).toNat + 2).toNat h) (17 + 60 * r + 5 * V (2 + r).toNat + 3).toNat s) (17 + 60 * r + 5 * V (2 + r).toNat + 4).toNat w) (2 + r).toNat (V (2 + r).toNat + 1)) 14 (V 14 + 1))
def pWeighs (V : Nat → Int) (r a w : Int) : OR :=
  if ¬((0 ≤ r ∧ r ≤ 1) ∧ 0 ≤ a ∧ a ≤ V (2 + r).toNat - 1) then (-11, 0, 0, V)
  else if ¬(0 ≤ w ∧ w ≤ 9) then (-12, 0, 0, V)
  else if V (17 + 60 * r + 5 * a + 4).toNat = w then (-14, 3, a, V)
  else (V (17 + 60 * r + 5 * a + 4).toNat, 0, 0, up V (17 + 60 * r + 5 * a + 4).toNat w)
/-- the arcs behind a move up -/
def shf (V : Nat → Int) (lo hi : Nat) : Nat → Int := fun k => if lo ≤ k ∧ k < hi then V (k + 5) else V k
def pDrops (V : Nat → Int) (r a : Int) : OR :=
  if ¬((0 ≤ r ∧ r ≤ 1) ∧ 0 ≤ a ∧ a ≤ V (2 + r).toNat - 1) then (-11, 0, 0, V)
  else (V (2 + r).toNat - 1, 0, 0, up (up (shf V (17 + 60 * r + 5 * a).toNat (17 + 60 * r + 55).toNat) (2 + r).toNat (V (2 + r).toNat - 1)) 15 (V 15 + 1))
/-- the first n arcs are turned -/
def swp (V : Nat → Int) (r : Int) : Nat → (Nat → Int)
  | 0 => V
  | n + 1 => up (up (swp V r n) (17 + 60 * r + 5 * n + 2).toNat (swp V r n (17 + 60 * r + 5 * n + 3).toNat)) (17 + 60 * r + 5 * n + 3).toNat (swp V r n (17 + 60 * r + 5 * n + 2).toNat)
def pUnlike (V : Nat → Int) (r : Int) (n : Nat) : Int := sm (fun a => bI (¬ V (17 + 60 * r + 5 * a + 2).toNat = V (17 + 60 * r + 5 * a + 3).toNat)) n
def pTurns (V : Nat → Int) (r : Int) : OR :=
  if ¬(0 ≤ r ∧ r ≤ 1) then (-11, 0, 0, V)
  else if pUnlike V r (V (2 + r).toNat).toNat = 0 then (-14, 4, V (2 + r).toNat, swp V r (V (2 + r).toNat).toNat)
  else (pUnlike V r (V (2 + r).toNat).toNat, 0, 0, up (swp V r (V (2 + r).toNat).toNat) 16 (V 16 + 1))
theorem swp_at (V : Nat → Int) (r : Int) (hr : 0 ≤ r) (n : Nat) (k : Nat) (hk : k < 17 ∨ (17 + 60 * r + 5 * n).toNat ≤ k) : swp V r n k = V k := by
  induction n with
  | zero => rfl
  | succ n ih =>
    simp only [swp, up_at]
    rw [if_neg (by omega), if_neg (by omega), ih (by omega)]
/-- the model's numbers after an order -/
def sOut (s : Nat → Int) (o : OR) : Nat → Int := if o.1 = -14 then up (up (up (up s 2 o.2.1) 3 o.2.2.1) 4 0) 0 (-14) else if o.1 < 0 then up s 0 o.1 else s
theorem sOut_14 (s : Nat → Int) (y d : Int) (V : Nat → Int) : sOut s (-14, y, d, V) = up (up (up (up s 2 y) 3 d) 4 0) 0 (-14) := rfl
theorem sOut_11 (s : Nat → Int) (y d : Int) (V : Nat → Int) : sOut s (-11, y, d, V) = up s 0 (-11) := rfl
theorem sOut_12 (s : Nat → Int) (y d : Int) (V : Nat → Int) : sOut s (-12, y, d, V) = up s 0 (-12) := rfl
theorem sOut_0 (s : Nat → Int) {c : Int} (hc : 0 ≤ c) (y d : Int) (V : Nat → Int) : sOut s (c, y, d, V) = s := by
  simp only [sOut]
  rw [if_neg (by omega), if_neg (by omega)]
