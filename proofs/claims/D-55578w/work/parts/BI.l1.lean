/-! THE LAW (1): both objects in one heap -/
set_option maxRecDepth 100000
/-- the model's cells -/
def moO (m : Nat) : Nat → Prop := fun b => m ≤ b ∧ b ≤ m + 20
/-- what is kept where the model's cells alone change: no array of five is the model's -/
def kp5 (h h' : HS) : Prop := ∀ b o, o.1 ≠ 8 → (o.1 = 100 → o.2.length = 5) → h.1 b = some o → h'.1 b = some o
theorem cLi.k5 {h h' : HS} {l e n : Nat} {mc : Int32} {f : Nat → Value} {L : List AR} (H : cLi h l mc e n f L) (hm : kp5 h h') : cLi h' l mc e n f L := by
  obtain ⟨h1, h2, h3, h4, h5⟩ := H
  refine ⟨hm _ _ (by simp) (by simp) h1, hm _ _ (by simp) (by simp) h2, h3, h4, fun i x hx => ?_⟩
  obtain ⟨a, q1, q2⟩ := h5 i x hx
  refine ⟨a, q1, hm _ _ ?_ (fun e => ?_) q2⟩
  · show aK x ≠ 8
    unfold aK; split <;> omega
  · have e : aK x = 100 := e
    unfold aK at e; split at e <;> omega
theorem cRu.k5 {h h' : HS} {r : Nat} {n : Int} {L : List AR} {B : Nat → Int} (H : cRu h r n L B) (hm : kp5 h h') : cRu h' r n L B := by
  obtain ⟨h1, h2, ⟨mc, f, h3⟩, h4, h5, h6⟩ := H
  exact ⟨h1, hm _ _ (by simp) (by simp) h2, ⟨mc, f, h3.k5 hm⟩, hm _ _ (by simp) (fun _ => ia_len _ _) h4, h5, h6⟩
theorem cCi.k5 {h h' : HS} {c e : Nat} {V : Nat → Int} (H : cCi h c e V) (hm : kp5 h h') : cCi h' c e V := by
  obtain ⟨r0, r1, q1, q2, q3, c1, c2, c3, c4⟩ := H
  exact ⟨r0, r1, q1, q2, q3, hm _ _ (by simp) (by simp) c1, hm _ _ (by simp) (by simp) c2, c3.k5 hm, c4.k5 hm⟩
theorem XR.out {P O : Nat → Prop} {h h' : HS} {x k : Nat} {D : XD} {S : ST} (H : XR P h x D S) (F : cFr O h k h') (hK : ∀ b j vs, O b → h.1 b = some (j, vs) → j = 8 ∨ (j = 100 ∧ vs.length ≠ 5)) : XR P h' x D S := by
  obtain ⟨⟨sv, y, d, y2, d2, o1, o2⟩, ⟨c1, c2, ⟨c3, c3'⟩, c4, c5, c6, c7, c8, hd, dt, dF, q1, q2, q3⟩, ⟨⟨t, t1, t2⟩, ⟨z, g, g1, g2, g3⟩, ⟨k', kv, z1, z2, l1, l2, l3, l4⟩, t5⟩, p1, p2, p3, p4, p5⟩ := H
  have hm : kp5 h h' := fun b o k1 k2 hb => F.at (fun e => by
    rcases hK b o.1 o.2 e hb with q | ⟨q, q'⟩
    · exact k1 q
    · exact q' (k2 q)) hb
  have nx := F.nx
  have l2' : k' = 19 ∨ k' = 219 := l2
  have l4' : kv = 102 ∨ kv = 302 := l4
  refine ⟨⟨sv, y, d, y2, d2, hm _ _ (by simp) (by simp) o1, o2⟩, ⟨c1.k5 hm, fun W hW => ?_, ⟨c3, fun i k W a b => (c3' i k W a b).k5 hm⟩, fun k hk => ?_, c5, c6, by omega, c8, hd, dt, dF, hm _ _ (by simp) (by simp) q1, hm _ _ (by simp) (by simp) q2, q3⟩, ⟨⟨t, hm _ _ (by simp) (by simp) t1, fun i hi => hm _ _ (by simp) (by simp) (t2 i hi)⟩, ⟨z, g, hm _ _ (by simp) (by simp) g1, hm _ _ (by simp) (by simp) g2, g3⟩, ⟨k', kv, z1, z2, hm _ _ (by simp only; omega) (by simp only; omega) l1, l2, hm _ _ (by simp only; omega) (by simp only; omega) l3, l4⟩, t5⟩, fun b hb => by have := p1 b hb; omega, p2, p3, p4, p5⟩
  · obtain ⟨w1, w2, w3, w4, w5, w6⟩ := c2 W hW
    exact ⟨w1.k5 hm, w2, w3, w4, w5, by omega⟩
  · obtain ⟨w1, w2, w3, w4⟩ := c4 k hk
    exact ⟨w1, w2, w3, by omega⟩
theorem mh_at {h : HS} {m : Nat} {s : Nat → Int} {A : Nat → Nat → Int} {b : Nat} (hb : ¬ moO m b) : (mh h m s A).1 b = h.1 b := by
  unfold moO at hb
  simp only [mh]
  rw [if_neg (by omega), if_neg (by omega)]
theorem mlen_5 (i : Nat) : mlen i ≠ 5 := by
  unfold mlen
  split <;> omega
theorem mh_kd {h : HS} {m : Nat} {s : Nat → Int} {A : Nat → Nat → Int} {b j : Nat} {vs : List Value} (hb : moO m b) (hj : (mh h m s A).1 b = some (j, vs)) : j = 8 ∨ (j = 100 ∧ vs.length ≠ 5) := by
  unfold moO at hb
  simp only [mh] at hj
  split at hj
  · cases hj; exact Or.inl rfl
  · rw [if_pos (by omega)] at hj
    cases hj; exact Or.inr ⟨rfl, by rw [ia_len]; exact mlen_5 _⟩
/-- the model's cells are changed -/
theorem mh_fr {h : HS} {m : Nat} {s s' : Nat → Int} {A A' : Nat → Nat → Int} (hw : WF (mh h m s A)) : cFr (moO m) (mh h m s A) 0 (mh h m s' A') := by
  refine ⟨hw, fun b hb => ?_, Nat.le_refl _, fun b o hO hb => ?_, Nat.le_refl _, Nat.le_refl _⟩
  · have hn := hw b hb
    have hno : ¬ moO m b := fun q => by
      unfold moO at q
      simp only [mh] at hn
      split at hn
      · cases hn
      · rw [if_pos (by omega)] at hn
        cases hn
    rw [mh_at hno] at hn ⊢
    exact hn
  · rw [mh_at hO] at hb ⊢
    exact hb
/-- the component has run: the model is where it was -/
theorem mh_back {h h' : HS} {m n : Nat} {s : Nat → Int} {A : Nat → Nat → Int} {O : Nat → Prop} (F : cFr O (mh h m s A) n h') (hO : ∀ b, moO m b → ¬ O b) : h' = mh h' m s A :=
  mh_is (F.at (hO m ⟨Nat.le_refl _, by omega⟩) (mh_m h m s A)) (fun i hi => F.at (hO _ ⟨by omega, by omega⟩) (mh_ag hi))
