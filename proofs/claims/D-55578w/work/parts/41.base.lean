/-! BASE of level 2: numbers, arrays, the model's object -/
set_option maxRecDepth 100000
/-- a number as an int of the machine -/
def iI (a : Int) : Int32 := Int32.ofInt a
theorem iI_add (a b : Int) : iI a + iI b = iI (a + b) := (Int32.ofInt_add a b).symm
theorem iI_sub (a b : Int) : iI a - iI b = iI (a - b) := (Int32.ofInt_sub a b).symm
theorem iI_mul (a b : Int) : iI a * iI b = iI (a * b) := (Int32.ofInt_mul a b).symm
theorem iI_neg (a : Int) : -iI a = iI (-a) := (Int32.ofInt_neg a).symm
theorem iI_lit (n : Nat) : @OfNat.ofNat Int32 n Int32.instOfNat = iI (@OfNat.ofNat Int n _root_.instOfNat) := by
  show Int32.ofNat n = Int32.ofInt (n : Int)
  rfl
theorem iI_to {a : Int} (h1 : -2147483648 ≤ a) (h2 : a < 2147483648) : (iI a).toInt = a := Int32.toInt_ofInt_of_le (by simpa using h1) (by simpa using h2)
theorem iI_eq {a b : Int} (h1 : -2147483648 ≤ a) (h2 : a < 2147483648) (h3 : -2147483648 ≤ b) (h4 : b < 2147483648) : (iI a = iI b) = (a = b) := by
  apply propext
  refine ⟨fun h => ?_, fun h => by rw [h]⟩
  rw [← iI_to h1 h2, ← iI_to h3 h4, h]
theorem iI_lt {a b : Int} (h1 : -2147483648 ≤ a) (h2 : a < 2147483648) (h3 : -2147483648 ≤ b) (h4 : b < 2147483648) : (iI a < iI b) = (a < b) := by
  rw [Int32.lt_iff_toInt_lt, iI_to h1 h2, iI_to h3 h4]
theorem iI_le {a b : Int} (h1 : -2147483648 ≤ a) (h2 : a < 2147483648) (h3 : -2147483648 ≤ b) (h4 : b < 2147483648) : (iI a ≤ iI b) = (a ≤ b) := by
  rw [Int32.le_iff_toInt_le, iI_to h1 h2, iI_to h3 h4]
theorem iI_nat {a : Int} (h1 : 0 ≤ a) (h2 : a < 2147483648) : (iI a).toNatClampNeg = a.toNat := by
  rw [Int32.toNatClampNeg, iI_to (by omega) h2]
theorem iI_of (z : Int32) : z = iI z.toInt := (Int32.ofInt_toInt z).symm
theorem iI_len (n : Nat) : n.toInt32 = iI n := rfl
def up {α : Type} (f : Nat → α) (k : Nat) (x : α) : Nat → α := fun j => if j = k then x else f j
theorem up_at {α : Type} (f : Nat → α) (k j : Nat) (x : α) : up f k x j = if j = k then x else f j := rfl
theorem up_up {α : Type} (f : Nat → α) (k : Nat) (x y : α) : up (up f k x) k y = up f k y := by
  funext j; simp only [up]; split <;> rfl
theorem up_self {α : Type} (f : Nat → α) (k : Nat) : up f k (f k) = f := by
  funext j; simp only [up]; split
  · next h => rw [h]
  · rfl
/-- an array of ints -/
def ia (n : Nat) (f : Nat → Int) : List Value := (List.range n).map fun j => Value.int (iI (f j))
theorem ia_len (n : Nat) (f : Nat → Int) : (ia n f).length = n := by simp [ia]
theorem ia_get {n k : Nat} {f : Nat → Int} (h : k < n) : (ia n f)[k]? = some (.int (iI (f k))) := by simp [ia, List.getElem?_map, List.getElem?_range h]
theorem ia_set (n k : Nat) (f : Nat → Int) (x : Int) : (ia n f).set k (.int (iI x)) = ia n (up f k x) := by
  apply List.ext_getElem?
  intro j
  rw [List.getElem?_set]
  simp only [ia, List.length_map, List.length_range, List.getElem?_map, up]
  rcases Nat.lt_or_ge j n with hj | hj
  · by_cases e : k = j
    · subst e; simp [hj]
    · rw [if_neg e, List.getElem?_range hj]
      simp [Ne.symm (show k ≠ j from e)]
  · by_cases e : k = j
    · subst e; rw [if_pos rfl, if_neg (by omega)]; simp [List.getElem?_eq_none, hj]
    · rw [if_neg e]; simp [List.getElem?_eq_none, hj]
theorem ia_rep (n : Nat) : List.replicate n (Value.int 0) = ia n (fun _ => 0) := by
  apply List.ext_getElem?
  intro j
  rw [List.getElem?_replicate]
  simp only [ia, List.getElem?_map]
  rcases Nat.lt_or_ge j n with hj | hj
  · rw [if_pos hj, List.getElem?_range hj]; rfl
  · rw [if_neg (by omega)]; simp [List.getElem?_eq_none, hj]
theorem ia_congr {n : Nat} {f g : Nat → Int} (h : ∀ k, k < n → f k = g k) : ia n f = ia n g := by
  simp only [ia]
  apply List.map_congr_left
  intro j hj
  rw [h j (List.mem_range.1 hj)]
/-- a truth as a number -/
def bI (p : Prop) [Decidable p] : Int := if p then 1 else 0
theorem na_bI (p : Prop) [Decidable p] : narrow .boolean (.int (iI (bI p))) = .int (iI (bI p)) := by unfold bI; split <;> rfl
theorem na_b01 {a : Int} (h1 : 0 ≤ a) (h2 : a ≤ 1) : narrow .boolean (.int (iI a)) = .int (iI a) := by
  rcases (show a = 0 ∨ a = 1 by omega) with h | h <;> subst h <;> rfl
theorem fi_bI (p : Prop) [Decidable p] : fits .boolean (.int (iI (bI p))) = true := by unfold bI; split <;> rfl
theorem fi_b01 {a : Int} (h1 : 0 ≤ a) (h2 : a ≤ 1) : fits .boolean (.int (iI a)) = true := by
  rcases (show a = 0 ∨ a = 1 by omega) with h | h <;> subst h <;> rfl

/-- the model's object: its numbers are s, its arrays lie behind it -/
def mo (m : Nat) (s : Nat → Int) : List Value := [.int (iI (s 0)), .int (iI (s 1)), .int (iI (s 2)), .int (iI (s 3)), .int (iI (s 4)), .int (iI (s 5)), .int (iI (s 6)), .ref (m + 1), .ref (m + 2), .ref (m + 3), .ref (m + 4), .ref (m + 5), .ref (m + 6), .ref (m + 7), .ref (m + 8), .ref (m + 9), .ref (m + 10), .int (iI (s 17)), .int (iI (s 18)), .ref (m + 11), .ref (m + 12), .ref (m + 13), .ref (m + 14), .ref (m + 15), .ref (m + 16), .ref (m + 17), .int (iI (s 26)), .int (iI (s 27)), .int (iI (s 28)), .ref (m + 18), .int (iI (s 30)), .ref (m + 19), .ref (m + 20), .int (iI (s 33)), .int (iI (s 34)), .int (iI (s 35)), .int (iI (s 36))]
def mlen : Nat → Nat
  | 0 => 137
  | 1 => 137
  | 2 => 137
  | 3 => 1096
  | 4 => 300
  | 5 => 300
  | 6 => 300
  | 7 => 300
  | 8 => 300
  | 9 => 25
  | 10 => 25
  | 11 => 25
  | 12 => 60
  | 13 => 225
  | 14 => 225
  | 15 => 225
  | 16 => 51750
  | 17 => 300
  | 18 => 25
  | 19 => 6
  | _ => 0
theorem mo_g0 (m : Nat) (s : Nat → Int) : (mo m s)[0]? = some (.int (iI (s 0))) := rfl
theorem mo_s0 (m : Nat) (s : Nat → Int) (x : Int) : (mo m s).set 0 (.int (iI x)) = mo m (up s 0 x) := rfl
theorem mo_g1 (m : Nat) (s : Nat → Int) : (mo m s)[1]? = some (.int (iI (s 1))) := rfl
theorem mo_s1 (m : Nat) (s : Nat → Int) (x : Int) : (mo m s).set 1 (.int (iI x)) = mo m (up s 1 x) := rfl
theorem mo_g2 (m : Nat) (s : Nat → Int) : (mo m s)[2]? = some (.int (iI (s 2))) := rfl
theorem mo_s2 (m : Nat) (s : Nat → Int) (x : Int) : (mo m s).set 2 (.int (iI x)) = mo m (up s 2 x) := rfl
theorem mo_g3 (m : Nat) (s : Nat → Int) : (mo m s)[3]? = some (.int (iI (s 3))) := rfl
theorem mo_s3 (m : Nat) (s : Nat → Int) (x : Int) : (mo m s).set 3 (.int (iI x)) = mo m (up s 3 x) := rfl
theorem mo_g4 (m : Nat) (s : Nat → Int) : (mo m s)[4]? = some (.int (iI (s 4))) := rfl
theorem mo_s4 (m : Nat) (s : Nat → Int) (x : Int) : (mo m s).set 4 (.int (iI x)) = mo m (up s 4 x) := rfl
theorem mo_g5 (m : Nat) (s : Nat → Int) : (mo m s)[5]? = some (.int (iI (s 5))) := rfl
theorem mo_s5 (m : Nat) (s : Nat → Int) (x : Int) : (mo m s).set 5 (.int (iI x)) = mo m (up s 5 x) := rfl
theorem mo_g6 (m : Nat) (s : Nat → Int) : (mo m s)[6]? = some (.int (iI (s 6))) := rfl
theorem mo_s6 (m : Nat) (s : Nat → Int) (x : Int) : (mo m s).set 6 (.int (iI x)) = mo m (up s 6 x) := rfl
theorem mo_g7 (m : Nat) (s : Nat → Int) : (mo m s)[7]? = some (.ref (m + 1)) := rfl
theorem mo_g8 (m : Nat) (s : Nat → Int) : (mo m s)[8]? = some (.ref (m + 2)) := rfl
theorem mo_g9 (m : Nat) (s : Nat → Int) : (mo m s)[9]? = some (.ref (m + 3)) := rfl
theorem mo_g10 (m : Nat) (s : Nat → Int) : (mo m s)[10]? = some (.ref (m + 4)) := rfl
theorem mo_g11 (m : Nat) (s : Nat → Int) : (mo m s)[11]? = some (.ref (m + 5)) := rfl
theorem mo_g12 (m : Nat) (s : Nat → Int) : (mo m s)[12]? = some (.ref (m + 6)) := rfl
theorem mo_g13 (m : Nat) (s : Nat → Int) : (mo m s)[13]? = some (.ref (m + 7)) := rfl
theorem mo_g14 (m : Nat) (s : Nat → Int) : (mo m s)[14]? = some (.ref (m + 8)) := rfl
theorem mo_g15 (m : Nat) (s : Nat → Int) : (mo m s)[15]? = some (.ref (m + 9)) := rfl
theorem mo_g16 (m : Nat) (s : Nat → Int) : (mo m s)[16]? = some (.ref (m + 10)) := rfl
theorem mo_g17 (m : Nat) (s : Nat → Int) : (mo m s)[17]? = some (.int (iI (s 17))) := rfl
theorem mo_s17 (m : Nat) (s : Nat → Int) (x : Int) : (mo m s).set 17 (.int (iI x)) = mo m (up s 17 x) := rfl
theorem mo_g18 (m : Nat) (s : Nat → Int) : (mo m s)[18]? = some (.int (iI (s 18))) := rfl
theorem mo_s18 (m : Nat) (s : Nat → Int) (x : Int) : (mo m s).set 18 (.int (iI x)) = mo m (up s 18 x) := rfl
theorem mo_g19 (m : Nat) (s : Nat → Int) : (mo m s)[19]? = some (.ref (m + 11)) := rfl
theorem mo_g20 (m : Nat) (s : Nat → Int) : (mo m s)[20]? = some (.ref (m + 12)) := rfl
theorem mo_g21 (m : Nat) (s : Nat → Int) : (mo m s)[21]? = some (.ref (m + 13)) := rfl
theorem mo_g22 (m : Nat) (s : Nat → Int) : (mo m s)[22]? = some (.ref (m + 14)) := rfl
theorem mo_g23 (m : Nat) (s : Nat → Int) : (mo m s)[23]? = some (.ref (m + 15)) := rfl
theorem mo_g24 (m : Nat) (s : Nat → Int) : (mo m s)[24]? = some (.ref (m + 16)) := rfl
theorem mo_g25 (m : Nat) (s : Nat → Int) : (mo m s)[25]? = some (.ref (m + 17)) := rfl
theorem mo_g26 (m : Nat) (s : Nat → Int) : (mo m s)[26]? = some (.int (iI (s 26))) := rfl
theorem mo_s26 (m : Nat) (s : Nat → Int) (x : Int) : (mo m s).set 26 (.int (iI x)) = mo m (up s 26 x) := rfl
theorem mo_g27 (m : Nat) (s : Nat → Int) : (mo m s)[27]? = some (.int (iI (s 27))) := rfl
theorem mo_s27 (m : Nat) (s : Nat → Int) (x : Int) : (mo m s).set 27 (.int (iI x)) = mo m (up s 27 x) := rfl
theorem mo_g28 (m : Nat) (s : Nat → Int) : (mo m s)[28]? = some (.int (iI (s 28))) := rfl
theorem mo_s28 (m : Nat) (s : Nat → Int) (x : Int) : (mo m s).set 28 (.int (iI x)) = mo m (up s 28 x) := rfl
theorem mo_g29 (m : Nat) (s : Nat → Int) : (mo m s)[29]? = some (.ref (m + 18)) := rfl
theorem mo_g30 (m : Nat) (s : Nat → Int) : (mo m s)[30]? = some (.int (iI (s 30))) := rfl
theorem mo_s30 (m : Nat) (s : Nat → Int) (x : Int) : (mo m s).set 30 (.int (iI x)) = mo m (up s 30 x) := rfl
theorem mo_g31 (m : Nat) (s : Nat → Int) : (mo m s)[31]? = some (.ref (m + 19)) := rfl
theorem mo_g32 (m : Nat) (s : Nat → Int) : (mo m s)[32]? = some (.ref (m + 20)) := rfl
theorem mo_g33 (m : Nat) (s : Nat → Int) : (mo m s)[33]? = some (.int (iI (s 33))) := rfl
theorem mo_s33 (m : Nat) (s : Nat → Int) (x : Int) : (mo m s).set 33 (.int (iI x)) = mo m (up s 33 x) := rfl
theorem mo_g34 (m : Nat) (s : Nat → Int) : (mo m s)[34]? = some (.int (iI (s 34))) := rfl
theorem mo_s34 (m : Nat) (s : Nat → Int) (x : Int) : (mo m s).set 34 (.int (iI x)) = mo m (up s 34 x) := rfl
theorem mo_g35 (m : Nat) (s : Nat → Int) : (mo m s)[35]? = some (.int (iI (s 35))) := rfl
theorem mo_s35 (m : Nat) (s : Nat → Int) (x : Int) : (mo m s).set 35 (.int (iI x)) = mo m (up s 35 x) := rfl
theorem mo_g36 (m : Nat) (s : Nat → Int) : (mo m s)[36]? = some (.int (iI (s 36))) := rfl
theorem mo_s36 (m : Nat) (s : Nat → Int) (x : Int) : (mo m s).set 36 (.int (iI x)) = mo m (up s 36 x) := rfl
/-- the heap h, with the model at m -/
def mh (h : HS) (m : Nat) (s : Nat → Int) (A : Nat → Nat → Int) : HS := (fun b => if b = m then some (8, mo m s) else if m < b ∧ b ≤ m + 20 then some (100, ia (mlen (b - m - 1)) (A (b - m - 1))) else h.1 b, h.2)
theorem mh_2 (h : HS) (m : Nat) (s : Nat → Int) (A : Nat → Nat → Int) : (mh h m s A).2 = h.2 := rfl
theorem mh_m (h : HS) (m : Nat) (s : Nat → Int) (A : Nat → Nat → Int) : (mh h m s A).1 m = some (8, mo m s) := by simp only [mh, if_true]
theorem mh_setm (h : HS) (m : Nat) (s s' : Nat → Int) (A : Nat → Nat → Int) : hset (mh h m s A) m (8, mo m s') = mh h m s' A := by
  simp only [mh, hset, Prod.mk.injEq, and_true]
  funext b
  split <;> rfl
theorem mh_seta (h : HS) (m : Nat) (s : Nat → Int) (A : Nat → Nat → Int) (i : Nat) (hi : i < 20) (f : Nat → Int) : hset (mh h m s A) (m + (i + 1)) (100, ia (mlen i) f) = mh h m s (up A i f) := by
  simp only [mh, hset, Prod.mk.injEq, and_true]
  funext b
  by_cases e : b = m + (i + 1)
  · subst e
    have e : m + (i + 1) - m - 1 = i := by omega
    rw [if_pos rfl, if_neg (by omega), if_pos (by omega), e]
    simp only [up, if_true]
  · rw [if_neg e]
    by_cases e1 : b = m
    · rw [if_pos e1, if_pos e1]
    · rw [if_neg e1, if_neg e1]
      by_cases e2 : m < b ∧ b ≤ m + 20
      · rw [if_pos e2, if_pos e2]
        simp only [up]
        rw [if_neg (by omega)]
      · rw [if_neg e2, if_neg e2]
theorem mh_a0 (h : HS) (m : Nat) (s : Nat → Int) (A : Nat → Nat → Int) : (mh h m s A).1 (m + 1) = some (100, ia 137 (A 0)) := by
  have e : m + 1 - m - 1 = 0 := by omega
  simp only [mh]
  rw [if_neg (by omega), if_pos (by omega), e]
  rfl
theorem mh_t0 (h : HS) (m : Nat) (s : Nat → Int) (A : Nat → Nat → Int) (f : Nat → Int) : hset (mh h m s A) (m + 1) (100, ia 137 f) = mh h m s (up A 0 f) := mh_seta h m s A 0 (by omega) f
theorem mh_a1 (h : HS) (m : Nat) (s : Nat → Int) (A : Nat → Nat → Int) : (mh h m s A).1 (m + 2) = some (100, ia 137 (A 1)) := by
  have e : m + 2 - m - 1 = 1 := by omega
  simp only [mh]
  rw [if_neg (by omega), if_pos (by omega), e]
  rfl
theorem mh_t1 (h : HS) (m : Nat) (s : Nat → Int) (A : Nat → Nat → Int) (f : Nat → Int) : hset (mh h m s A) (m + 2) (100, ia 137 f) = mh h m s (up A 1 f) := mh_seta h m s A 1 (by omega) f
theorem mh_a2 (h : HS) (m : Nat) (s : Nat → Int) (A : Nat → Nat → Int) : (mh h m s A).1 (m + 3) = some (100, ia 137 (A 2)) := by
  have e : m + 3 - m - 1 = 2 := by omega
  simp only [mh]
  rw [if_neg (by omega), if_pos (by omega), e]
  rfl
theorem mh_t2 (h : HS) (m : Nat) (s : Nat → Int) (A : Nat → Nat → Int) (f : Nat → Int) : hset (mh h m s A) (m + 3) (100, ia 137 f) = mh h m s (up A 2 f) := mh_seta h m s A 2 (by omega) f
theorem mh_a3 (h : HS) (m : Nat) (s : Nat → Int) (A : Nat → Nat → Int) : (mh h m s A).1 (m + 4) = some (100, ia 1096 (A 3)) := by
  have e : m + 4 - m - 1 = 3 := by omega
  simp only [mh]
  rw [if_neg (by omega), if_pos (by omega), e]
  rfl
theorem mh_t3 (h : HS) (m : Nat) (s : Nat → Int) (A : Nat → Nat → Int) (f : Nat → Int) : hset (mh h m s A) (m + 4) (100, ia 1096 f) = mh h m s (up A 3 f) := mh_seta h m s A 3 (by omega) f
theorem mh_a4 (h : HS) (m : Nat) (s : Nat → Int) (A : Nat → Nat → Int) : (mh h m s A).1 (m + 5) = some (100, ia 300 (A 4)) := by
  have e : m + 5 - m - 1 = 4 := by omega
  simp only [mh]
  rw [if_neg (by omega), if_pos (by omega), e]
  rfl
theorem mh_t4 (h : HS) (m : Nat) (s : Nat → Int) (A : Nat → Nat → Int) (f : Nat → Int) : hset (mh h m s A) (m + 5) (100, ia 300 f) = mh h m s (up A 4 f) := mh_seta h m s A 4 (by omega) f
theorem mh_a5 (h : HS) (m : Nat) (s : Nat → Int) (A : Nat → Nat → Int) : (mh h m s A).1 (m + 6) = some (100, ia 300 (A 5)) := by
  have e : m + 6 - m - 1 = 5 := by omega
  simp only [mh]
  rw [if_neg (by omega), if_pos (by omega), e]
  rfl
theorem mh_t5 (h : HS) (m : Nat) (s : Nat → Int) (A : Nat → Nat → Int) (f : Nat → Int) : hset (mh h m s A) (m + 6) (100, ia 300 f) = mh h m s (up A 5 f) := mh_seta h m s A 5 (by omega) f
theorem mh_a6 (h : HS) (m : Nat) (s : Nat → Int) (A : Nat → Nat → Int) : (mh h m s A).1 (m + 7) = some (100, ia 300 (A 6)) := by
  have e : m + 7 - m - 1 = 6 := by omega
  simp only [mh]
  rw [if_neg (by omega), if_pos (by omega), e]
  rfl
theorem mh_t6 (h : HS) (m : Nat) (s : Nat → Int) (A : Nat → Nat → Int) (f : Nat → Int) : hset (mh h m s A) (m + 7) (100, ia 300 f) = mh h m s (up A 6 f) := mh_seta h m s A 6 (by omega) f
theorem mh_a7 (h : HS) (m : Nat) (s : Nat → Int) (A : Nat → Nat → Int) : (mh h m s A).1 (m + 8) = some (100, ia 300 (A 7)) := by
  have e : m + 8 - m - 1 = 7 := by omega
  simp only [mh]
  rw [if_neg (by omega), if_pos (by omega), e]
  rfl
theorem mh_t7 (h : HS) (m : Nat) (s : Nat → Int) (A : Nat → Nat → Int) (f : Nat → Int) : hset (mh h m s A) (m + 8) (100, ia 300 f) = mh h m s (up A 7 f) := mh_seta h m s A 7 (by omega) f
theorem mh_a8 (h : HS) (m : Nat) (s : Nat → Int) (A : Nat → Nat → Int) : (mh h m s A).1 (m + 9) = some (100, ia 300 (A 8)) := by
  have e : m + 9 - m - 1 = 8 := by omega
  simp only [mh]
  rw [if_neg (by omega), if_pos (by omega), e]
  rfl
theorem mh_t8 (h : HS) (m : Nat) (s : Nat → Int) (A : Nat → Nat → Int) (f : Nat → Int) : hset (mh h m s A) (m + 9) (100, ia 300 f) = mh h m s (up A 8 f) := mh_seta h m s A 8 (by omega) f
theorem mh_a9 (h : HS) (m : Nat) (s : Nat → Int) (A : Nat → Nat → Int) : (mh h m s A).1 (m + 10) = some (100, ia 25 (A 9)) := by
  have e : m + 10 - m - 1 = 9 := by omega
  simp only [mh]
  rw [if_neg (by omega), if_pos (by omega), e]
  rfl
theorem mh_t9 (h : HS) (m : Nat) (s : Nat → Int) (A : Nat → Nat → Int) (f : Nat → Int) : hset (mh h m s A) (m + 10) (100, ia 25 f) = mh h m s (up A 9 f) := mh_seta h m s A 9 (by omega) f
theorem mh_a10 (h : HS) (m : Nat) (s : Nat → Int) (A : Nat → Nat → Int) : (mh h m s A).1 (m + 11) = some (100, ia 25 (A 10)) := by
  have e : m + 11 - m - 1 = 10 := by omega
  simp only [mh]
  rw [if_neg (by omega), if_pos (by omega), e]
  rfl
theorem mh_t10 (h : HS) (m : Nat) (s : Nat → Int) (A : Nat → Nat → Int) (f : Nat → Int) : hset (mh h m s A) (m + 11) (100, ia 25 f) = mh h m s (up A 10 f) := mh_seta h m s A 10 (by omega) f
theorem mh_a11 (h : HS) (m : Nat) (s : Nat → Int) (A : Nat → Nat → Int) : (mh h m s A).1 (m + 12) = some (100, ia 25 (A 11)) := by
  have e : m + 12 - m - 1 = 11 := by omega
  simp only [mh]
  rw [if_neg (by omega), if_pos (by omega), e]
  rfl
theorem mh_t11 (h : HS) (m : Nat) (s : Nat → Int) (A : Nat → Nat → Int) (f : Nat → Int) : hset (mh h m s A) (m + 12) (100, ia 25 f) = mh h m s (up A 11 f) := mh_seta h m s A 11 (by omega) f
theorem mh_a12 (h : HS) (m : Nat) (s : Nat → Int) (A : Nat → Nat → Int) : (mh h m s A).1 (m + 13) = some (100, ia 60 (A 12)) := by
  have e : m + 13 - m - 1 = 12 := by omega
  simp only [mh]
  rw [if_neg (by omega), if_pos (by omega), e]
  rfl
theorem mh_t12 (h : HS) (m : Nat) (s : Nat → Int) (A : Nat → Nat → Int) (f : Nat → Int) : hset (mh h m s A) (m + 13) (100, ia 60 f) = mh h m s (up A 12 f) := mh_seta h m s A 12 (by omega) f
theorem mh_a13 (h : HS) (m : Nat) (s : Nat → Int) (A : Nat → Nat → Int) : (mh h m s A).1 (m + 14) = some (100, ia 225 (A 13)) := by
  have e : m + 14 - m - 1 = 13 := by omega
  simp only [mh]
  rw [if_neg (by omega), if_pos (by omega), e]
  rfl
theorem mh_t13 (h : HS) (m : Nat) (s : Nat → Int) (A : Nat → Nat → Int) (f : Nat → Int) : hset (mh h m s A) (m + 14) (100, ia 225 f) = mh h m s (up A 13 f) := mh_seta h m s A 13 (by omega) f
theorem mh_a14 (h : HS) (m : Nat) (s : Nat → Int) (A : Nat → Nat → Int) : (mh h m s A).1 (m + 15) = some (100, ia 225 (A 14)) := by
  have e : m + 15 - m - 1 = 14 := by omega
  simp only [mh]
  rw [if_neg (by omega), if_pos (by omega), e]
  rfl
theorem mh_t14 (h : HS) (m : Nat) (s : Nat → Int) (A : Nat → Nat → Int) (f : Nat → Int) : hset (mh h m s A) (m + 15) (100, ia 225 f) = mh h m s (up A 14 f) := mh_seta h m s A 14 (by omega) f
theorem mh_a15 (h : HS) (m : Nat) (s : Nat → Int) (A : Nat → Nat → Int) : (mh h m s A).1 (m + 16) = some (100, ia 225 (A 15)) := by
  have e : m + 16 - m - 1 = 15 := by omega
  simp only [mh]
  rw [if_neg (by omega), if_pos (by omega), e]
  rfl
theorem mh_t15 (h : HS) (m : Nat) (s : Nat → Int) (A : Nat → Nat → Int) (f : Nat → Int) : hset (mh h m s A) (m + 16) (100, ia 225 f) = mh h m s (up A 15 f) := mh_seta h m s A 15 (by omega) f
theorem mh_a16 (h : HS) (m : Nat) (s : Nat → Int) (A : Nat → Nat → Int) : (mh h m s A).1 (m + 17) = some (100, ia 51750 (A 16)) := by
  have e : m + 17 - m - 1 = 16 := by omega
  simp only [mh]
  rw [if_neg (by omega), if_pos (by omega), e]
  rfl
theorem mh_t16 (h : HS) (m : Nat) (s : Nat → Int) (A : Nat → Nat → Int) (f : Nat → Int) : hset (mh h m s A) (m + 17) (100, ia 51750 f) = mh h m s (up A 16 f) := mh_seta h m s A 16 (by omega) f
theorem mh_a17 (h : HS) (m : Nat) (s : Nat → Int) (A : Nat → Nat → Int) : (mh h m s A).1 (m + 18) = some (100, ia 300 (A 17)) := by
  have e : m + 18 - m - 1 = 17 := by omega
  simp only [mh]
  rw [if_neg (by omega), if_pos (by omega), e]
  rfl
theorem mh_t17 (h : HS) (m : Nat) (s : Nat → Int) (A : Nat → Nat → Int) (f : Nat → Int) : hset (mh h m s A) (m + 18) (100, ia 300 f) = mh h m s (up A 17 f) := mh_seta h m s A 17 (by omega) f
theorem mh_a18 (h : HS) (m : Nat) (s : Nat → Int) (A : Nat → Nat → Int) : (mh h m s A).1 (m + 19) = some (100, ia 25 (A 18)) := by
  have e : m + 19 - m - 1 = 18 := by omega
  simp only [mh]
  rw [if_neg (by omega), if_pos (by omega), e]
  rfl
theorem mh_t18 (h : HS) (m : Nat) (s : Nat → Int) (A : Nat → Nat → Int) (f : Nat → Int) : hset (mh h m s A) (m + 19) (100, ia 25 f) = mh h m s (up A 18 f) := mh_seta h m s A 18 (by omega) f
theorem mh_a19 (h : HS) (m : Nat) (s : Nat → Int) (A : Nat → Nat → Int) : (mh h m s A).1 (m + 20) = some (100, ia 6 (A 19)) := by
  have e : m + 20 - m - 1 = 19 := by omega
  simp only [mh]
  rw [if_neg (by omega), if_pos (by omega), e]
  rfl
theorem mh_t19 (h : HS) (m : Nat) (s : Nat → Int) (A : Nat → Nat → Int) (f : Nat → Int) : hset (mh h m s A) (m + 20) (100, ia 6 f) = mh h m s (up A 19 f) := mh_seta h m s A 19 (by omega) f
theorem mh_is {h : HS} {m : Nat} {s : Nat → Int} {A : Nat → Nat → Int} (h1 : h.1 m = some (8, mo m s)) (h2 : ∀ i, i < 20 → h.1 (m + (i + 1)) = some (100, ia (mlen i) (A i))) : h = mh h m s A := by
  apply Prod.ext
  · funext b
    simp only [mh]
    split
    · next e => rw [e, h1]
    · split
      · next e1 e2 =>
        have := h2 (b - m - 1) (by omega)
        rw [show m + (b - m - 1 + 1) = b by omega] at this
        exact this
      · rfl
  · rfl
