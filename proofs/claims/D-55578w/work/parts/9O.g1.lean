/-! THE COMPONENT (31): the state, told -/
set_option maxRecDepth 100000
/-- where the parts of the state lie -/
abbrev XD : Type := Nat × Nat × Nat × Nat × Nat × Nat × Nat × List (Nat × Nat) × Nat × Nat × Nat × Nat × Nat
abbrev XD.hr (D : XD) : Nat := D.1
abbrev XD.c (D : XD) : Nat := D.2.1
abbrev XD.ce (D : XD) : Nat := D.2.2.1
abbrev XD.sv (D : XD) : Nat := D.2.2.2.1
abbrev XD.se (D : XD) : Nat := D.2.2.2.2.1
abbrev XD.dq (D : XD) : Nat := D.2.2.2.2.2.1
abbrev XD.da (D : XD) : Nat := D.2.2.2.2.2.2.1
abbrev XD.K (D : XD) : List (Nat × Nat) := D.2.2.2.2.2.2.2.1
abbrev XD.tx (D : XD) : Nat := D.2.2.2.2.2.2.2.2.1
abbrev XD.tv (D : XD) : Nat := D.2.2.2.2.2.2.2.2.2.1
abbrev XD.cap (D : XD) : Nat := D.2.2.2.2.2.2.2.2.2.2.1
abbrev XD.ln (D : XD) : Nat := D.2.2.2.2.2.2.2.2.2.2.2.1
abbrev XD.lv (D : XD) : Nat := D.2.2.2.2.2.2.2.2.2.2.2.2
def cStx (h : HS) (w v : Nat) (l : List Int) : Prop := ∃ k kv z1 z2, h.1 w = some (k, [.ref v, .int (iI 0), z1, z2]) ∧ (k = 19 ∨ k = 219) ∧ h.1 v = some (kv, ia l.length (wordS l)) ∧ (kv = 102 ∨ kv = 302)
theorem cStx.st {h : HS} {w v : Nat} {l : List Int} (H : cStx h w v l) : cSt h w l := by
  obtain ⟨k, kv, z1, z2, H⟩ := H
  exact ⟨k, kv, v, z1, z2, H⟩
def iap (a b : Nat × Nat) : Prop := a.2 ≤ b.1 ∨ b.2 ≤ a.1
def iout (b : Nat) (a : Nat × Nat) : Prop := b < a.1 ∨ a.2 ≤ b
/-- the choirs of the state: now, saved, before -/
def XC (h : HS) (D : XD) (S : ST) : Prop :=
  cCi h D.c D.ce S.1 ∧ (∀ W, S.2.2.1 = some W → cCi h D.sv D.se W ∧ iap (D.c, D.ce) (D.sv, D.se) ∧ iout D.da (D.sv, D.se) ∧ iout D.dq (D.sv, D.se) ∧ (∀ k ∈ D.K, iap (D.sv, D.se) k) ∧ D.se ≤ h.2.1) ∧
  (D.K.length = S.2.1.length ∧ ∀ (i : Nat) k W, D.K[i]? = some k → S.2.1[i]? = some W → cCi h k.1 k.2 W) ∧
  (∀ k ∈ D.K, iap (D.c, D.ce) k ∧ iout D.da k ∧ iout D.dq k ∧ k.2 ≤ h.2.1) ∧ iout D.da (D.c, D.ce) ∧ iout D.dq (D.c, D.ce) ∧ D.ce ≤ h.2.1 ∧ D.K.Pairwise iap ∧ cDq h D.dq D.da (D.K.map Prod.fst)
/-- the texts of the state -/
def XT (h : HS) (D : XD) (S : ST) : Prop := cHr h D.hr ∧ cSbx h D.tx D.tv D.cap S.2.2.2.2.1 ∧ cStx h D.ln D.lv S.2.2.2.2.2 ∧ (D.lv ≠ D.tv ∧ D.cap ≤ 200)
/-- the object itself -/
def XO (h : HS) (x : Nat) (D : XD) (S : ST) : Prop := ∃ (sv : Value) (y d y2 d2 : Int), h.1 x = some (0, [.ref D.hr, .ref D.c, sv, .ref D.dq, .int (iI y), .int (iI d), .int (iI y2), .int (iI d2), .ref D.tx, .ref D.ln]) ∧
  (match S.2.2.1 with | none => sv = .null | some _ => sv = .ref D.sv) ∧ y = S.2.2.2.1.1 ∧ (y ≠ 0 → d = S.2.2.2.1.2.1) ∧ y2 = S.2.2.2.1.2.2.1 ∧ (y2 ≠ 0 → d2 = S.2.2.2.1.2.2.2)
/-- the component's object x is in state S; no cell of P is its own -/
def XR (P : Nat → Prop) (h : HS) (x : Nat) (D : XD) (S : ST) : Prop := XO h x D S ∧ XC h D S ∧ XT h D S ∧ (∀ b, P b → b < h.2.1) ∧ ¬ P x ∧ (∀ b, P b → iout b (D.c, D.ce)) ∧ (∀ b, P b → ∀ k ∈ D.K, iout b k) ∧ (∀ b, P b → ¬ b = D.dq ∧ ¬ b = D.da ∧ ¬ b = D.tx ∧ ¬ b = D.tv)
theorem cCi.ex {h h' : HS} {c e k : Nat} {V : Nat → Int} (H : cCi h c e V) (hx : cEx h k h') : cCi h' c e V := by
  obtain ⟨r0, r1, a1, a2, a3, H⟩ := H
  exact ⟨r0, r1, a1, a2, a3, H.ex hx⟩
theorem cCi.monoK {h h' : HS} {c e : Nat} {V : Nat → Int} (H : cCi h c e V) (hm : ∀ b o, mkK o.1 → h.1 b = some o → h'.1 b = some o) : cCi h' c e V := by
  obtain ⟨r0, r1, a1, a2, a3, H⟩ := H
  exact ⟨r0, r1, a1, a2, a3, H.monoK hm⟩
theorem cDq.mono {h h' : HS} {d da : Nat} {M : List Nat} (H : cDq h d da M) (h1 : ∀ o, h.1 d = some o → h'.1 d = some o) (h2 : ∀ o, h.1 da = some o → h'.1 da = some o) : cDq h' d da M := by
  obtain ⟨hd, t, F, q1, q2, q3⟩ := H
  exact ⟨hd, t, F, h1 _ q1, h2 _ q2, q3⟩
/-- the choirs are kept where their kinds are, and the queue -/
theorem XC.mono {h h' : HS} {D : XD} {S : ST} (H : XC h D S) (hn : h.2.1 ≤ h'.2.1) (hm : ∀ b o, mkK o.1 ∨ o.1 = 17 → h.1 b = some o → h'.1 b = some o) : XC h' D S := by
  have hk : ∀ b o, mkK o.1 → h.1 b = some o → h'.1 b = some o := fun b o q => hm b o (Or.inl q)
  obtain ⟨h1, h2, ⟨h3, h3'⟩, h4, h5, h6, h7, h8, h9⟩ := H
  refine ⟨h1.monoK hk, fun W hW => ?_, ⟨h3, fun i k W a b => (h3' i k W a b).monoK hk⟩, fun k hk => ?_, h5, h6, by omega, h8, ?_⟩
  · obtain ⟨q1, q2, q3, q4, q5, q6⟩ := h2 W hW
    exact ⟨q1.monoK hk, q2, q3, q4, q5, by omega⟩
  · obtain ⟨q1, q2, q3, q4⟩ := h4 k hk
    exact ⟨q1, q2, q3, by omega⟩
  · obtain ⟨hd, t, F, q1, q2, q3⟩ := h9
    exact ⟨hd, t, F, hm _ _ (Or.inr rfl) q1, hm _ _ (Or.inl (by simp [mkK])) q2, q3⟩
theorem XT.mono {h h' : HS} {D : XD} {S : ST} (H : XT h D S) (hm : ∀ b o, ¬ mkK o.1 → o.1 ≠ 17 → o.1 ≠ 0 → h.1 b = some o → h'.1 b = some o) (h104 : ∀ b o, o.1 = 104 ∨ o.1 = 99 → h.1 b = some o → h'.1 b = some o) : XT h' D S := by
  obtain ⟨⟨t, t1, t2⟩, ⟨z, g, g1, g2, g3⟩, ⟨k, kv, z1, z2, l1, l2, l3, l4⟩, ne⟩ := H
  refine ⟨⟨t, h104 _ _ (Or.inl rfl) t1, fun i hi => h104 _ _ (Or.inr rfl) (t2 i hi)⟩, ⟨z, g, hm _ _ (by simp [mkK]) (by simp) (by simp) g1, hm _ _ (by simp [mkK]) (by simp) (by simp) g2, g3⟩, ⟨k, kv, z1, z2, hm _ _ ?_ ?_ ?_ l1, l2, hm _ _ ?_ ?_ ?_ l3, l4⟩, ne⟩
  · rcases l2 with rfl | rfl <;> simp [mkK]
  · rcases l2 with rfl | rfl <;> simp
  · rcases l2 with rfl | rfl <;> simp
  · rcases l4 with rfl | rfl <;> simp [mkK]
  · rcases l4 with rfl | rfl <;> simp
  · rcases l4 with rfl | rfl <;> simp
theorem XR.ex {P : Nat → Prop} {h h' : HS} {x k : Nat} {D : XD} {S : ST} (H : XR P h x D S) (hx : cEx h k h') : XR P h' x D S := by
  obtain ⟨⟨sv, y, d, y2, d2, o1, o2⟩, h2, h3, h4, h5⟩ := H
  exact ⟨⟨sv, y, d, y2, d2, hx.at o1, o2⟩, h2.mono hx.nx (fun _ _ _ q => hx.at q), h3.mono (fun _ _ _ _ _ q => hx.at q) (fun _ _ _ q => hx.at q), fun b hb => by have := h4 b hb; have := hx.nx; omega, h5⟩
/-- what is written into the object's own cell -/
theorem XR.fld {P : Nat → Prop} {h : HS} {x : Nat} {D : XD} {S S' : ST} (H : XR P h x D S) {vs : List Value} (ho : XO (hset h x (0, vs)) x D S') (e1 : S'.1 = S.1) (e2 : S'.2.1 = S.2.1) (e3 : S'.2.2.1 = S.2.2.1) (e4 : S'.2.2.2.2 = S.2.2.2.2) : XR P (hset h x (0, vs)) x D S' := by
  obtain ⟨⟨sv, y, d, y2, d2, o1, o2⟩, h2, h3, h4, h5⟩ := H
  have nn : ∀ b o, o.1 ≠ 0 → h.1 b = some o → (hset h x (0, vs)).1 b = some o := fun b o hk hb => by
    rw [hset_at, if_neg (fun e => by subst e; rw [o1] at hb; cases hb; exact hk rfl)]
    exact hb
  have c := h2.mono (h' := hset h x (0, vs)) (Nat.le_refl _) (fun b o hk hb => nn b o (by rintro q; rw [q] at hk; revert hk; simp [mkK]) hb)
  have t := h3.mono (h' := hset h x (0, vs)) (fun b o _ _ hk hb => nn b o hk hb) (fun b o hk hb => nn b o (by omega) hb)
  refine ⟨ho, ?_, ?_, h4, h5⟩
  · unfold XC at c ⊢; rw [e1, e2, e3]; exact c
  · unfold XT at t ⊢; rw [e4]; exact t
