/-! PURE: the text of orders, read -/
set_option maxRecDepth 100000
/-- an order: its word, the rule, one, two, what is heard, what is sung, the weight -/
abbrev Cmd : Type := Int × Int × Int × Int × Int × Int × Int
/-- the next sign, -1 for none -/
def nxt (w : Nat → Int) (T : Nat) (p : Nat) : Int := if p < T then w p else -1
abbrev isDg (c : Int) : Prop := 48 ≤ c ∧ c ≤ 57
/-- a step behind another one -/
def bnd {α β : Type} (r : Option α × Nat) (f : α → Nat → Option β × Nat) : Option β × Nat := match r.1 with
  | none => (none, r.2)
  | some a => f a r.2
theorem bnd_n {α β : Type} {p : Nat} {f : α → Nat → Option β × Nat} : bnd (none, p) f = (none, p) := rfl
theorem bnd_s {α β : Type} {p : Nat} {a : α} {f : α → Nat → Option β × Nat} : bnd (some a, p) f = f a p := rfl
section PP
variable (n : Nat → Int)
def rMark (c : Int) (p : Nat) : Option Unit × Nat := if n p = c then (some (), p + 1) else (none, p)
def digs : Nat → Int → Nat → Int × Nat
  | 0, v, p => (v, p)
  | k + 1, v, p => if isDg (n p) then digs k (10 * v + n p - 48) (p + 1) else (v, p)
def rDig (most p : Nat) : Option Int × Nat := if isDg (n p) then (some (digs n most 0 p).1, (digs n most 0 p).2) else (none, p)
def rSnd (p : Nat) : Option Int × Nat := if 97 ≤ n p ∧ n p ≤ 100 then (some (n p - 97), p + 1) else if n p = 45 then (some 4, p + 1) else (none, p)
def rBeh (c : Int) (most p : Nat) : Option Int × Nat := bnd (rMark n c p) fun _ p => rDig n most p
def rSb (c : Int) (p : Nat) : Option Int × Nat := bnd (rMark n c p) fun _ p => rSnd n p
def rNo (p : Nat) : Option Int × Nat := if n p = 45 then (some (-1), p + 1) else rDig n 1 p
def rEnd (r : Int) (p : Nat) : Option Cmd × Nat := bnd (rBeh n 46 1 p) fun one p => bnd (rMark n 61 p) fun _ p => bnd (rNo n p) fun w p => (some (102, r, one, 0, 0, 0, w), p)
def rArc (r : Int) (p : Nat) : Option Cmd × Nat := bnd (rBeh n 58 1 p) fun one p => bnd (rBeh n 62 1 p) fun two p => bnd (rSb n 32 p) fun h p => bnd (rSb n 47 p) fun s p => bnd (rBeh n 61 1 p) fun w p => (some (97, r, one, two, h, s, w), p)
def rWei (r : Int) (p : Nat) : Option Cmd × Nat := bnd (rBeh n 46 2 p) fun one p => bnd (rBeh n 61 1 p) fun w p => (some (119, r, one, 0, 0, 0, w), p)
def rDrp (r : Int) (p : Nat) : Option Cmd × Nat := bnd (rBeh n 46 2 p) fun one p => (some (100, r, one, 0, 0, 0, 0), p)
abbrev isOr (c : Int) : Prop := c = 115 ∨ c = 102 ∨ c = 97 ∨ c = 119 ∨ c = 100 ∨ c = 116
def rCmd (p : Nat) : Option Cmd × Nat := if isOr (n p) then
    bnd (rDig n 1 (p + 1)) fun r q => if n p = 102 then rEnd n r q else if n p = 97 then rArc n r q else if n p = 119 then rWei n r q else if n p = 100 then rDrp n r q else (some (n p, r, 0, 0, 0, 0, 0), q)
  else (none, p)
/-- the orders behind the first one -/
def PT (T : Nat) : Nat → List Cmd → Prop
  | p, [] => ¬ p < T
  | p, c :: L => p < T ∧ n p = 59 ∧ ∃ q, rCmd n (p + 1) = (some c, q) ∧ PT T q L
/-- .. and one that is wrong, at z -/
def PE (T : Nat) : Nat → List Cmd → Nat → Prop
  | p, [], z => p < T ∧ ((¬ n p = 59 ∧ z = p) ∨ (n p = 59 ∧ rCmd n (p + 1) = (none, z)))
  | p, c :: L, z => p < T ∧ n p = 59 ∧ ∃ q, rCmd n (p + 1) = (some c, q) ∧ PE T q L z
end PP
section PQ
variable {n : Nat → Int} {T : Nat}
theorem digs_le (hn : ∀ p, T ≤ p → n p = -1) : ∀ (k : Nat) (v : Int) (p : Nat), p ≤ T → p ≤ (digs n k v p).2 ∧ (digs n k v p).2 ≤ T := by
  intro k
  induction k with
  | zero => intro v p hp; exact ⟨Nat.le_refl _, hp⟩
  | succ k ih =>
    intro v p hp
    simp only [digs]
    split
    · rename_i c
      have : p < T := by
        rcases Nat.lt_or_ge p T with q | q
        · exact q
        · have := hn p q; omega
      have := ih (10 * v + n p - 48) (p + 1) (by omega)
      omega
    · exact ⟨Nat.le_refl _, hp⟩
theorem digs_bd : ∀ (k : Nat) (v : Int) (p : Nat), (0 ≤ v ∧ v ≤ 100) → k ≤ 2 → 0 ≤ (digs n k v p).1 ∧ (digs n k v p).1 ≤ 100000 := by
  intro k
  cases k with
  | zero => intro v p hv hk; simp only [digs]; omega
  | succ k =>
    cases k with
    | zero =>
      intro v p hv hk
      simp only [digs]
      split
      · simp only; omega
      · simp only; omega
    | succ k =>
      intro v p hv hk
      have : k = 0 := by omega
      subst this
      simp only [digs]
      split
      · split
        · simp only; omega
        · simp only; omega
      · simp only; omega
/-- a step goes on within the text -/
def goOn {α : Type} (T p : Nat) (r : Option α × Nat) : Prop := p ≤ r.2 ∧ r.2 ≤ T
theorem goOn.bnd {α β : Type} {p : Nat} {r : Option α × Nat} {f : α → Nat → Option β × Nat} (h : goOn T p r) (hf : ∀ a q, r = (some a, q) → p ≤ q → q ≤ T → goOn T q (f a q)) : goOn T p (bnd r f) := by
  obtain ⟨a, q⟩ := r
  cases a with
  | none => exact h
  | some a =>
    have := hf a q rfl h.1 h.2
    exact ⟨Nat.le_trans h.1 this.1, this.2⟩
theorem rMark_go (hn : ∀ p, T ≤ p → n p = -1) {c : Int} (hc : 0 ≤ c) {p : Nat} (hp : p ≤ T) : goOn T p (rMark n c p) := by
  unfold rMark
  split
  · rename_i e
    have : p < T := by
      rcases Nat.lt_or_ge p T with q | q
      · exact q
      · have := hn p q; omega
    exact ⟨by simp only; omega, by simp only; omega⟩
  · exact ⟨Nat.le_refl _, hp⟩
theorem rDig_go (hn : ∀ p, T ≤ p → n p = -1) {k p : Nat} (hp : p ≤ T) : goOn T p (rDig n k p) := by
  unfold rDig
  split
  · exact digs_le hn k 0 p hp
  · exact ⟨Nat.le_refl _, hp⟩
theorem rSnd_go (hn : ∀ p, T ≤ p → n p = -1) {p : Nat} (hp : p ≤ T) : goOn T p (rSnd n p) := by
  have lt : 0 ≤ n p → p < T := fun h => by
    rcases Nat.lt_or_ge p T with q | q
    · exact q
    · have := hn p q; omega
  unfold rSnd
  split
  · have := lt (by omega); exact ⟨by simp only; omega, by simp only; omega⟩
  · split
    · have := lt (by omega); exact ⟨by simp only; omega, by simp only; omega⟩
    · exact ⟨Nat.le_refl _, hp⟩
theorem rBeh_go (hn : ∀ p, T ≤ p → n p = -1) {c : Int} (hc : 0 ≤ c) {k p : Nat} (hp : p ≤ T) : goOn T p (rBeh n c k p) := (rMark_go hn hc hp).bnd (fun _ _ _ _ hq => rDig_go hn hq)
theorem rSb_go (hn : ∀ p, T ≤ p → n p = -1) {c : Int} (hc : 0 ≤ c) {p : Nat} (hp : p ≤ T) : goOn T p (rSb n c p) := (rMark_go hn hc hp).bnd (fun _ _ _ _ hq => rSnd_go hn hq)
theorem rNo_go (hn : ∀ p, T ≤ p → n p = -1) {p : Nat} (hp : p ≤ T) : goOn T p (rNo n p) := by
  unfold rNo
  split
  · rename_i e
    have : p < T := by
      rcases Nat.lt_or_ge p T with q | q
      · exact q
      · have := hn p q; omega
    exact ⟨by simp only; omega, by simp only; omega⟩
  · exact rDig_go hn hp
theorem rEnd_go (hn : ∀ p, T ≤ p → n p = -1) {r : Int} {p : Nat} (hp : p ≤ T) : goOn T p (rEnd n r p) :=
  (rBeh_go hn (by omega) hp).bnd (fun _ _ _ _ hq => (rMark_go hn (by omega) hq).bnd (fun _ _ _ _ hq => (rNo_go hn hq).bnd (fun _ q _ _ hq => ⟨Nat.le_refl _, hq⟩)))
theorem rArc_go (hn : ∀ p, T ≤ p → n p = -1) {r : Int} {p : Nat} (hp : p ≤ T) : goOn T p (rArc n r p) :=
  (rBeh_go hn (by omega) hp).bnd (fun _ _ _ _ hq => (rBeh_go hn (by omega) hq).bnd (fun _ _ _ _ hq => (rSb_go hn (by omega) hq).bnd (fun _ _ _ _ hq => (rSb_go hn (by omega) hq).bnd (fun _ _ _ _ hq => (rBeh_go hn (by omega) hq).bnd (fun _ q _ _ hq => ⟨Nat.le_refl _, hq⟩)))))
theorem rWei_go (hn : ∀ p, T ≤ p → n p = -1) {r : Int} {p : Nat} (hp : p ≤ T) : goOn T p (rWei n r p) :=
  (rBeh_go hn (by omega) hp).bnd (fun _ _ _ _ hq => (rBeh_go hn (by omega) hq).bnd (fun _ q _ _ hq => ⟨Nat.le_refl _, hq⟩))
theorem rDrp_go (hn : ∀ p, T ≤ p → n p = -1) {r : Int} {p : Nat} (hp : p ≤ T) : goOn T p (rDrp n r p) :=
  (rBeh_go hn (by omega) hp).bnd (fun _ q _ _ hq => ⟨Nat.le_refl _, hq⟩)
/-- an order that is read takes signs -/
theorem rCmd_go (hn : ∀ p, T ≤ p → n p = -1) {p : Nat} (hp : p ≤ T) : goOn T p (rCmd n p) ∧ ∀ c q, rCmd n p = (some c, q) → p + 1 ≤ q := by
  unfold rCmd
  split
  · rename_i e
    have lt : p < T := by
      rcases Nat.lt_or_ge p T with q | q
      · exact q
      · have := hn p q; omega
    have key := (rDig_go hn (k := 1) (p := p + 1) (by omega)).bnd (f := fun r q => if n p = 102 then rEnd n r q else if n p = 97 then rArc n r q else if n p = 119 then rWei n r q else if n p = 100 then rDrp n r q else (some (n p, r, 0, 0, 0, 0, 0), q)) (fun r q _ _ hq => by
      split
      · exact rEnd_go hn hq
      · split
        · exact rArc_go hn hq
        · split
          · exact rWei_go hn hq
          · split
            · exact rDrp_go hn hq
            · exact ⟨Nat.le_refl _, hq⟩)
    refine ⟨⟨by have := key.1; omega, key.2⟩, fun c q hq => ?_⟩
    have := key.1
    rw [hq] at this
    exact this
  · exact ⟨⟨Nat.le_refl _, hp⟩, fun c q hq => by cases hq⟩
/-- a text is orders, or wrong somewhere -/
theorem tail_ex (hn : ∀ p, T ≤ p → n p = -1) : ∀ (d p : Nat), T ≤ p + d → p ≤ T → ∃ L, PT n T p L ∨ ∃ z, PE n T p L z := by
  intro d
  induction d with
  | zero => intro p h1 h2; exact ⟨[], Or.inl (by show ¬ p < T; omega)⟩
  | succ d ih =>
    intro p h1 h2
    by_cases e : p < T
    · by_cases e2 : n p = 59
      · rcases hc : rCmd n (p + 1) with ⟨c, q⟩
        have g := rCmd_go hn (p := p + 1) (by omega)
        rw [hc] at g
        cases c with
        | none => exact ⟨[], Or.inr ⟨q, e, Or.inr ⟨e2, hc⟩⟩⟩
        | some c =>
          have g1 := g.1.2
          have g2 := g.2 c q rfl
          simp only at g1
          obtain ⟨L, hL | ⟨z, hz⟩⟩ := ih q (by omega) g1
          · exact ⟨c :: L, Or.inl ⟨e, e2, q, hc, hL⟩⟩
          · exact ⟨c :: L, Or.inr ⟨z, e, e2, q, hc, hz⟩⟩
      · exact ⟨[], Or.inr ⟨p, e, Or.inl ⟨e2, rfl⟩⟩⟩
    · exact ⟨[], Or.inl e⟩
/-- what the text is: wrong at a place, or orders -/
def POut (n : Nat → Int) (T : Nat) : Nat ⊕ List Cmd → Prop
  | .inl z => rCmd n 0 = (none, z) ∨ ∃ c q L, rCmd n 0 = (some c, q) ∧ PE n T q L z
  | .inr L => ∃ c q L', L = c :: L' ∧ rCmd n 0 = (some c, q) ∧ PT n T q L'
theorem POut_ex (hn : ∀ p, T ≤ p → n p = -1) : ∃ o, POut n T o := by
  rcases hc : rCmd n 0 with ⟨c, q⟩
  have g := rCmd_go hn (p := 0) (by omega)
  rw [hc] at g
  cases c with
  | none => exact ⟨.inl q, Or.inl hc⟩
  | some c =>
    have g1 := g.1.2
    simp only at g1
    obtain ⟨L, hL | ⟨z, hz⟩⟩ := tail_ex hn (T - q) q (by omega) g1
    · exact ⟨.inr (c :: L), c, q, L, rfl, hc, hL⟩
    · exact ⟨.inl z, Or.inr ⟨c, q, L, hc, hz⟩⟩
theorem PE_le (hn : ∀ p, T ≤ p → n p = -1) : ∀ (L : List Cmd) (p z : Nat), PE n T p L z → z ≤ T
  | [], p, z, h => by
    obtain ⟨h1, ⟨-, rfl⟩ | ⟨-, h2⟩⟩ := h
    · omega
    · have := (rCmd_go hn (p := p + 1) (by omega)).1.2
      rw [h2] at this
      exact this
  | c :: L, p, z, h => by
    obtain ⟨-, -, q, -, h⟩ := h
    exact PE_le hn L q z h
theorem PT_len (hn : ∀ p, T ≤ p → n p = -1) : ∀ (L : List Cmd) (p : Nat), PT n T p L → 2 * L.length + p ≤ T + (if L = [] then p else 0)
  | [], p, h => by simp
  | c :: L, p, h => by
    obtain ⟨h1, -, q, h2, h⟩ := h
    have g := rCmd_go hn (p := p + 1) (by omega)
    have g2 := g.2 c q h2
    have g1 := g.1.2
    rw [h2] at g1
    have := PT_len hn L q h
    simp only [List.length_cons, reduceCtorEq, if_false]
    simp only at g1
    split at this
    · rename_i e
      subst e
      simp only [List.length_nil] at this ⊢
      omega
    · omega
theorem POut_le (hn : ∀ p, T ≤ p → n p = -1) {z : Nat} (h : POut n T (.inl z)) : z ≤ T := by
  rcases h with h | ⟨c, q, L, -, h⟩
  · have := (rCmd_go hn (p := 0) (by omega)).1.2
    rw [h] at this
    exact this
  · exact PE_le hn L q z h
theorem POut_len (hn : ∀ p, T ≤ p → n p = -1) {L : List Cmd} (h : POut n T (.inr L)) : 2 * L.length ≤ T + 1 := by
  obtain ⟨c, q, L', rfl, h1, h2⟩ := h
  have g := rCmd_go hn (p := 0) (by omega)
  have g2 := g.2 c q h1
  have g1 := g.1.2
  rw [h1] at g1
  have := PT_len hn L' q h2
  simp only at g1
  simp only [List.length_cons]
  split at this
  · rename_i e
    subst e
    simp only [List.length_nil] at this ⊢
    omega
  · omega
end PQ
/-! orders, carried out -/
def pCmd (V : Nat → Int) (c : Cmd) : OR := if c.1 = 115 then pComes V c.2.1 else if c.1 = 102 then pSets V c.2.1 c.2.2.1 c.2.2.2.2.2.2 else if c.1 = 97 then pTells V c.2.1 c.2.2.1 c.2.2.2.1 c.2.2.2.2.1 c.2.2.2.2.2.1 c.2.2.2.2.2.2 else if c.1 = 119 then pWeighs V c.2.1 c.2.2.1 c.2.2.2.2.2.2 else if c.1 = 100 then pDrops V c.2.1 c.2.2.1 else pTurns V c.2.1
def exec (V : Nat → Int) : List Cmd → Nat → (Nat → Int) ⊕ (Nat × OR)
  | [], _ => .inl V
  | c :: L, k => if (pCmd V c).1 < 0 then .inr (k, pCmd V c) else exec (pCmd V c).2.2.2 L (k + 1)
/-- the text is empty then -/
def noText (S : ST) : ST := (S.1, S.2.1, S.2.2.1, S.2.2.2.1, [], S.2.2.2.2.2)
def oRun (S : ST) : Nat ⊕ List Cmd → Int × ST
  | .inl z => (-1000 - z, noText S)
  | .inr L => match exec S.1 L 0 with
    | .inl V => (L.length, (V, pushH S.2.1 S.1, S.2.2.1, S.2.2.2.1, [], S.2.2.2.2.2))
    | .inr (k, o) => (-14, (S.1, S.2.1, S.2.2.1, (5, k, if o.1 = -14 then o.2.1 else 0, if o.1 = -14 then o.2.2.1 else 0), [], S.2.2.2.2.2))
/-- the parts of an order are small -/
theorem bnd_some {α β : Type} {r : Option α × Nat} {f : α → Nat → Option β × Nat} {b : β} {q : Nat} (h : bnd r f = (some b, q)) : ∃ a p, r = (some a, p) ∧ f a p = (some b, q) := by
  obtain ⟨a, p⟩ := r
  cases a with
  | none => cases h
  | some a => exact ⟨a, p, rfl, h⟩
abbrev CmdB (c : Cmd) : Prop := isOr c.1 ∧ (0 ≤ c.2.1 ∧ c.2.1 ≤ 100000) ∧ (0 ≤ c.2.2.1 ∧ c.2.2.1 ≤ 100000) ∧ (0 ≤ c.2.2.2.1 ∧ c.2.2.2.1 ≤ 100000) ∧ (0 ≤ c.2.2.2.2.1 ∧ c.2.2.2.2.1 ≤ 4) ∧ (0 ≤ c.2.2.2.2.2.1 ∧ c.2.2.2.2.2.1 ≤ 4) ∧ (-1 ≤ c.2.2.2.2.2.2 ∧ c.2.2.2.2.2.2 ≤ 9)
section PB
variable {n : Nat → Int}
theorem rDig_bd {k p q : Nat} {v : Int} (hk : k ≤ 2) (h : rDig n k p = (some v, q)) : 0 ≤ v ∧ v ≤ 100000 := by
  unfold rDig at h
  split at h
  · injection h with h1 h2
    injection h1 with h1
    have := digs_bd (n := n) k 0 p (by omega) hk
    omega
  · cases h
theorem rDig1_bd {p q : Nat} {v : Int} (h : rDig n 1 p = (some v, q)) : 0 ≤ v ∧ v ≤ 9 := by
  unfold rDig at h
  split at h
  · rename_i c
    injection h with h1 h2
    injection h1 with h1
    simp only [digs] at h1
    rw [if_pos c] at h1
    simp only at h1
    have c : 48 ≤ n p ∧ n p ≤ 57 := c
    omega
  · cases h
theorem rSnd_bd {p q : Nat} {v : Int} (h : rSnd n p = (some v, q)) : 0 ≤ v ∧ v ≤ 4 := by
  unfold rSnd at h
  split at h
  · injection h with h1 h2
    injection h1 with h1
    omega
  · split at h
    · injection h with h1 h2
      injection h1 with h1
      omega
    · cases h
theorem rBeh_bd {c : Int} {k p q : Nat} {v : Int} (hk : k ≤ 2) (h : rBeh n c k p = (some v, q)) : 0 ≤ v ∧ v ≤ 100000 := by
  obtain ⟨-, p', -, h⟩ := bnd_some h
  exact rDig_bd hk h
theorem rBeh1_bd {c : Int} {p q : Nat} {v : Int} (h : rBeh n c 1 p = (some v, q)) : 0 ≤ v ∧ v ≤ 9 := by
  obtain ⟨-, p', -, h⟩ := bnd_some h
  exact rDig1_bd h
theorem rSb_bd {c : Int} {p q : Nat} {v : Int} (h : rSb n c p = (some v, q)) : 0 ≤ v ∧ v ≤ 4 := by
  obtain ⟨-, p', -, h⟩ := bnd_some h
  exact rSnd_bd h
theorem rNo_bd {p q : Nat} {v : Int} (h : rNo n p = (some v, q)) : -1 ≤ v ∧ v ≤ 9 := by
  unfold rNo at h
  split at h
  · injection h with h1 h2
    injection h1 with h1
    omega
  · have := rDig1_bd h; omega
theorem rCmd_bd {p q : Nat} {c : Cmd} (h : rCmd n p = (some c, q)) : CmdB c := by
  unfold rCmd at h
  split at h
  · rename_i e
    obtain ⟨r, p1, h1, h⟩ := bnd_some h
    have b1 := rDig_bd (by omega) h1
    split at h
    · obtain ⟨one, p2, h2, h⟩ := bnd_some h
      obtain ⟨-, p3, -, h⟩ := bnd_some h
      obtain ⟨w, p4, h4, h⟩ := bnd_some h
      have b2 := rBeh_bd (by omega) h2
      have b4 := rNo_bd h4
      cases h
      exact ⟨by simp only; omega, b1, b2, by simp only; omega, by simp only; omega, by simp only; omega, b4⟩
    · split at h
      · obtain ⟨one, p2, h2, h⟩ := bnd_some h
        obtain ⟨two, p3, h3, h⟩ := bnd_some h
        obtain ⟨hh, p4, h4, h⟩ := bnd_some h
        obtain ⟨ss, p5, h5, h⟩ := bnd_some h
        obtain ⟨w, p6, h6, h⟩ := bnd_some h
        have b2 := rBeh_bd (by omega) h2
        have b3 := rBeh_bd (by omega) h3
        have b4 := rSb_bd h4
        have b5 := rSb_bd h5
        have b6 := rBeh1_bd h6
        cases h
        exact ⟨by simp only; omega, b1, b2, b3, b4, b5, by simp only; omega⟩
      · split at h
        · obtain ⟨one, p2, h2, h⟩ := bnd_some h
          obtain ⟨w, p3, h3, h⟩ := bnd_some h
          have b2 := rBeh_bd (by omega) h2
          have b3 := rBeh1_bd h3
          cases h
          exact ⟨by simp only; omega, b1, b2, by simp only; omega, by simp only; omega, by simp only; omega, by simp only; omega⟩
        · split at h
          · obtain ⟨one, p2, h2, h⟩ := bnd_some h
            have b2 := rBeh_bd (by omega) h2
            cases h
            exact ⟨by simp only; omega, b1, b2, by simp only; omega, by simp only; omega, by simp only; omega, by simp only; omega⟩
          · cases h
            exact ⟨e, b1, by simp only; omega, by simp only; omega, by simp only; omega, by simp only; omega, by simp only; omega⟩
  · cases h
theorem PT_bd {T : Nat} : ∀ (L : List Cmd) (p : Nat), PT n T p L → ∀ c ∈ L, CmdB c
  | [], _, _ => fun c hc => nomatch hc
  | c :: L, p, h => by
    obtain ⟨-, -, q, h2, h⟩ := h
    intro d hd
    rcases List.mem_cons.1 hd with rfl | hd
    · exact rCmd_bd h2
    · exact PT_bd L q h d hd
theorem POut_bd {T : Nat} {L : List Cmd} (h : POut n T (.inr L)) : ∀ c ∈ L, CmdB c := by
  obtain ⟨c, q, L', rfl, h1, h2⟩ := h
  intro d hd
  rcases List.mem_cons.1 hd with rfl | hd
  · exact rCmd_bd h1
  · exact PT_bd L' q h2 d hd
end PB
