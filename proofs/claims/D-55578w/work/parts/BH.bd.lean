/-! PURE: how large both can grow, what a call costs at most -/
set_option maxRecDepth 100000
def eB (s0 s1 a0 a1 : Nat) : Nat := a0 * (if s1 ≤ a1 then a1 else s1) + a1 * s0
theorem firstN_len2 (pr : Int → Int → Int) (V : Nat → Int) (n M : Nat) (h1 : (V 1).toNat ≤ M) (h3 : (V 3).toNat ≤ M) : (firstN pr V n).length ≤ n * M := by
  induction n with
  | zero => simp [firstN]
  | succ n ih =>
    rw [firstN_up, List.length_append, Nat.add_mul, Nat.one_mul]
    have : (firstV pr V (arcI V 0 n)).length ≤ M := by
      unfold firstV
      split
      · rw [aloneN_len]; exact h1
      · exact Nat.le_trans (withN_len _ _ _ _) h3
    omega
theorem secondN_len2 (pr : Int → Int → Int) (V : Nat → Int) (n : Nat) : (secondN pr V n).length ≤ n * (V 0).toNat := by
  induction n with
  | zero => simp [secondN]
  | succ n ih =>
    rw [secondN_up, List.length_append, Nat.add_mul, Nat.one_mul]
    have : (if (arcI V 1 n).2.2.1 = 4 then breathN pr (arcI V 1 n) (V 0).toNat else []).length ≤ (V 0).toNat := by
      split
      · rw [breathN_len]; exact Nat.le_refl _
      · simp
    omega
theorem bothV_len2 (pr : Int → Int → Int) (V : Nat → Int) : (bothV pr V).length ≤ eB (V 0).toNat (V 1).toNat (V 2).toNat (V 3).toNat := by
  unfold bothV eB
  rw [List.length_append]
  have h1 := firstN_len2 pr V (V 2).toNat (if (V 1).toNat ≤ (V 3).toNat then (V 3).toNat else (V 1).toNat) (by split <;> omega) (by split <;> omega)
  have h2 := secondN_len2 pr V (V 3).toNat
  omega
theorem bd_1 : ∀ s0 s1 : Fin 5, ∀ a0 a1 : Fin 13, s0.val + s1.val + a0.val + a1.val ≤ 23 → eB (s0.val + 1) (s1.val + 1) a0.val a1.val ≤ 144 ∧ kBal ((s0.val + 1) * (s1.val + 1)) (eB (s0.val + 1) (s1.val + 1) a0.val a1.val) ≤ 57400 ∧ (s0.val + s1.val + a0.val + a1.val ≤ 15 → kBal ((s0.val + 1) * (s1.val + 1)) (eB (s0.val + 1) (s1.val + 1) a0.val a1.val) ≤ 24100) := by decide +kernel
theorem bd_2 : ∀ s0 s1 : Fin 5, ∀ a0 a1 : Fin 13, ∀ T : Fin 9, s0.val + s1.val + a0.val + a1.val + T.val ≤ 23 → costR ((s0.val + 1) * (s1.val + 1)) (eB (s0.val + 1) (s1.val + 1) a0.val a1.val) T.val ≤ 18500 := by decide +kernel
theorem kBal_le {n len n' len' : Nat} (h1 : n ≤ n') (h2 : len ≤ len') : kBal n len ≤ kBal n' len' := by
  unfold kBal kOne
  have := costR_le h1 h2 (Nat.le_refl 1)
  have := costB_le h1 (Nat.le_refl 1)
  omega
/-- what holds of a state when so many signs and orders were given -/
theorem bounds {V : Nat → Int} (hV : VI V) {T k : Nat} (h : rsV V + T ≤ k) (hk : k ≤ 25) : (bothV (fun p q => V 1 * p + q) V).length ≤ 144 ∧ kBal (V 0 * V 1).toNat (bothV (fun p q => V 1 * p + q) V).length ≤ 57400 ∧ (k ≤ 17 → kBal (V 0 * V 1).toNat (bothV (fun p q => V 1 * p + q) V).length ≤ 24100) ∧ (T ≤ 8 → costR (V 0 * V 1).toNat (bothV (fun p q => V 1 * p + q) V).length T ≤ 18500) := by
  have v0 := hV.1 0 (by omega) (by omega)
  have v1 := hV.1 1 (by omega) (by omega)
  simp only [Int.reduceToNat, Int.reduceAdd] at v0 v1
  have v4 := hV.2.2.2.1
  have vs := hV.2.2.2.2
  unfold rsV at h
  have hl := bothV_len2 (fun p q => V 1 * p + q) V
  have hm := (mulN hV).1
  have e0 : (V 0).toNat - 1 + 1 = (V 0).toNat := by omega
  have e1 : (V 1).toNat - 1 + 1 = (V 1).toNat := by omega
  have b1 := bd_1 ⟨(V 0).toNat - 1, by omega⟩ ⟨(V 1).toNat - 1, by omega⟩ ⟨(V 2).toNat, by omega⟩ ⟨(V 3).toNat, by omega⟩ (by simp only; omega)
  simp only [e0, e1] at b1
  rw [hm]
  have m1 := kBal_le (n := (V 0).toNat * (V 1).toNat) (Nat.le_refl _) hl
  refine ⟨by omega, by omega, fun hk => ?_, fun hT => ?_⟩
  · have := b1.2.2 (by omega)
    omega
  · have b2 := bd_2 ⟨(V 0).toNat - 1, by omega⟩ ⟨(V 1).toNat - 1, by omega⟩ ⟨(V 2).toNat, by omega⟩ ⟨(V 3).toNat, by omega⟩ ⟨T, by omega⟩ (by simp only; omega)
    simp only [e0, e1] at b2
    have := costR_le (n := (V 0).toNat * (V 1).toNat) (T := T) (Nat.le_refl _) hl (Nat.le_refl _)
    omega
