/-! THE LAW (2): the state between calls; a first call -/
set_option maxRecDepth 100000
/-- what may still be made behind k calls -/
def RR (k : Nat) : Nat := 5000 + (if k < 16 then (16 - k) * 25000 + 8 * 60000 else (24 - k) * 60000)
def tier (k : Nat) : Nat := if k < 16 then 25000 else 60000
theorem RR_step {k : Nat} (hk : k < 24) : RR k = RR (k + 1) + tier k := by
  unfold RR tier
  by_cases c : k < 16
  · by_cases c' : k + 1 < 16
    · rw [if_pos c, if_pos c', if_pos c]; omega
    · rw [if_pos c, if_neg c', if_pos c]; omega
  · rw [if_neg c, if_neg (by omega), if_neg c]; omega
def rsS (S : ST) (k : Nat) : Prop := (rsV S.1 + S.2.2.2.2.1.length ≤ k + 2) ∧ (∀ W ∈ S.2.1, rsV W + S.2.2.2.2.1.length ≤ k + 2) ∧ ∀ W, S.2.2.1 = some W → rsV W + S.2.2.2.2.1.length ≤ k + 2
theorem rsS.up {S : ST} {k : Nat} (H : rsS S k) : rsS S (k + 1) := ⟨by have := H.1; omega, fun W hW => by have := H.2.1 W hW; omega, fun W hW => by have := H.2.2 W hW; omega⟩
/-- cells that are none of the component's -/
def PP (x m : Nat) : Nat → Prop := fun b => b < x ∨ moO m b
/-- behind k calls -/
def LwS (g0 : HS) (x m k : Nat) (g : HS) : Prop := ∃ ss A D S, g = mh g m ss A ∧ MS ss A S ∧ SI S ∧ XR (PP x m) g x D S ∧ WF g ∧ cCr (RR k) g ∧ rsS S k ∧ ∀ b o, g0.1 b = some o → g.1 b = some o
/-- the state behind an order -/
theorem fin1_I {S : ST} {o : OR} {k : Nat} (hI : SI S) (hr : rsS S k) (hk : k ≤ 23) (ok : okO S.1 o) : SI (fin1 S o).2 ∧ rsS (fin1 S o).2 (k + 1) := by
  obtain ⟨i1, i2, i3, i4, i5, i6, i7, i8, i9, i10⟩ := id hI
  unfold fin1
  by_cases e : o.1 = -14
  · rw [if_pos e]
    have b := ok.2.2 e
    exact ⟨⟨i1, i2, i3, i4, by simp only; omega, by simp only; omega, by simp only; omega, by simp only; omega, fun q => absurd rfl q, i10⟩, hr.up⟩
  · rw [if_neg e]
    by_cases e2 : o.1 < 0
    · rw [if_pos e2]; exact ⟨hI, hr.up⟩
    · rw [if_neg e2]
      have b := ok.2.1 (by omega)
      have hp : ∀ W ∈ pushH S.2.1 S.1, W = S.1 ∨ W ∈ S.2.1 := fun W hW => by
        unfold pushH at hW
        split at hW
        · rcases List.mem_append.1 hW with q | q
          · exact Or.inr (List.mem_of_mem_tail q)
          · exact Or.inl (List.mem_singleton.1 q)
        · rcases List.mem_append.1 hW with q | q
          · exact Or.inr q
          · exact Or.inl (List.mem_singleton.1 q)
      have hl : (pushH S.2.1 S.1).length ≤ 8 := by
        unfold pushH
        split
        · simp; omega
        · simp; omega
      refine ⟨⟨b.1, fun W hW => ?_, hl, i4, i5, i6, i7, i8, i9, i10⟩, ⟨by have := hr.1; have := b.2; simp only; omega, fun W hW => ?_, fun W hW => by have := hr.2.2 W hW; simp only; omega⟩⟩
      · rcases hp W hW with rfl | q
        · exact i1
        · exact i2 W q
      · rcases hp W hW with rfl | q
        · have := hr.1; simp only; omega
        · have := hr.2.1 W q; simp only; omega
theorem mh_mh {h : HS} {m : Nat} {s s' : Nat → Int} {A A' : Nat → Nat → Int} : mh (mh h m s A) m s' A' = mh h m s' A' := by
  apply Prod.ext
  · funext b
    by_cases c : b = m
    · simp only [mh, c, if_true]
    · by_cases c' : m < b ∧ b ≤ m + 20
      · simp only [mh, c, c', and_self, if_false, if_true]
      · simp only [mh, c, c', if_false]
  · rfl
section LW
variable {E : Nat → Value} {Q : Rs → HS → Prop} {g g0 : HS} {x m k sc N : Nat} {s t : Nat → Nat} {f : Nat → Int}
/-- behind both calls -/
theorem LwS.next (hxm : x < m) {ss ss' : Nat → Int} {A A' : Nat → Nat → Int} {D' : XD} {S' : ST} {n : Nat} {h' : HS} (hk : k < 24) (hwf : WF g) (hcr : cCr (RR k) g) (hold : ∀ b o, g0.1 b = some o → g.1 b = some o) (h0 : ∀ b o, g0.1 b = some o → b < x) (eg : g = mh g m ss A)
    (hF : cFr (fun b => ¬ PP x m b) g n h') (hX : XR (PP x m) h' x D' S') (hn : n ≤ tier k) (hM : MS ss' A' S') (hI : SI S') (hr : rsS S' (k + 1)) : LwS g0 x m (k + 1) (mh h' m ss' A') := by
  have eh : h' = mh h' m ss A := by
    rw [eg] at hF
    exact mh_back hF (fun b hb q => q (Or.inr hb))
  have fr : cFr (moO m) h' 0 (mh h' m ss' A') := by
    have := mh_fr (s' := ss') (A' := A') (h := h') (m := m) (s := ss) (A := A) (by rw [← eh]; exact hF.w)
    rw [← eh] at this
    exact this
  refine ⟨ss', A', D', S', mh_mh.symm, hM, hI, hX.out fr (fun b j vs hb hj => by rw [eh] at hj; exact mh_kd hb hj), fr.w, ?_, hr, fun b o hb => ?_⟩
  · have := RR_step hk
    have c := hF.cr hcr (m := RR (k + 1)) (by omega)
    exact c
  · have hx := h0 b o hb
    have h1 := hF.at (fun q => q (Or.inl hx)) (hold b o hb)
    rw [mh_at (fun q => by unfold moO at q; omega)]
    exact h1
end LW
