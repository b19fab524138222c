/-! THE COMPONENT (28): the orders on a choir -/
set_option maxRecDepth 100000
/-- a choir whose own cells lie from c up to e -/
def cCi (h : HS) (c e : Nat) (V : Nat → Int) : Prop := ∃ r0 r1, c + 2 ≤ r0 ∧ r0 + 4 ≤ r1 ∧ r1 + 4 ≤ e ∧ cCh h c r0 r1 V
def rsel (q : Int) (r0 r1 : Nat) : Nat := if q = 0 then r0 else r1
/-- a rule is kept where nothing of it and no arc is changed -/
theorem cRu.keep {O : Nat → Prop} {h h' : HS} {r k : Nat} {n : Int} {L : List AR} {B : Nat → Int} (H : cRu h r n L B) (hF : cFr O h k h') (hO : ∀ b, O b → b < r ∨ r + 4 ≤ b) (hA : ∀ b j vs, O b → h.1 b = some (j, vs) → ¬ (j = 10 ∨ j = 11)) : cRu h' r n L B := by
  obtain ⟨h1, h2, ⟨mc, f, h3⟩, h4, h5, h6⟩ := H
  refine ⟨h1, hF.at (fun q => by have := hO _ q; omega) h2, ⟨mc, f, hF.at (fun q => by have := hO _ q; omega) h3.1, hF.at (fun q => by have := hO _ q; omega) h3.2.1, h3.2.2.1, h3.2.2.2.1, fun i x hx => ?_⟩, hF.at (fun q => by have := hO _ q; omega) h4, h5, h6⟩
  obtain ⟨b, w1, w2⟩ := h3.2.2.2.2 i x hx
  exact ⟨b, w1, hF.at (fun q => hA b _ _ q w2 (by unfold aK; split <;> simp)) w2⟩
theorem cCh.keep {O : Nat → Prop} {h h' : HS} {c e r0 r1 k : Nat} {V : Nat → Int} (ap : c + 2 ≤ r0 ∧ r0 + 4 ≤ r1 ∧ r1 + 4 ≤ e) (H : cCh h c r0 r1 V) (hF : cFr O h k h') (hO : ∀ b, O b → b < c ∨ e ≤ b) (hA : ∀ b j vs, O b → h.1 b = some (j, vs) → ¬ (j = 10 ∨ j = 11)) : cCh h' c r0 r1 V := by
  obtain ⟨h1, h2, h3, h4⟩ := H
  exact ⟨hF.at (fun q => by have := hO _ q; omega) h1, hF.at (fun q => by have := hO _ q; omega) h2, h3.keep hF (fun b q => by have := hO _ q; omega) hA, h4.keep hF (fun b q => by have := hO _ q; omega) hA⟩
theorem cCi.keep {O : Nat → Prop} {h h' : HS} {c e k : Nat} {V : Nat → Int} (H : cCi h c e V) (hF : cFr O h k h') (hO : ∀ b, O b → b < c ∨ e ≤ b) (hA : ∀ b j vs, O b → h.1 b = some (j, vs) → ¬ (j = 10 ∨ j = 11)) : cCi h' c e V := by
  obtain ⟨r0, r1, a1, a2, a3, H⟩ := H
  exact ⟨r0, r1, a1, a2, a3, H.keep ⟨a1, a2, a3⟩ hF hO hA⟩
theorem ruO_arc {h : HS} {r : Nat} {n : Int} {L : List AR} {B : Nat → Int} (H : cRu h r n L B) : ∀ b j vs, ruO r b → h.1 b = some (j, vs) → ¬ (j = 10 ∨ j = 11) := by
  obtain ⟨h1, h2, ⟨mc, f, h3⟩, h4, h5, h6⟩ := H
  intro b j vs ⟨o1, o2⟩ hb
  have : b = r ∨ b = r + 1 ∨ b = r + 2 ∨ b = r + 3 := by omega
  rcases this with e | e | e | e <;> subst e
  · rw [h2] at hb; cases hb; decide
  · rw [h3.1] at hb; cases hb; decide
  · rw [h3.2.1] at hb; cases hb; decide
  · rw [h4] at hb; cases hb; decide
theorem cCh.rule {h : HS} {c r0 r1 : Nat} {V : Nat → Int} {q : Int} (H : cCh h c r0 r1 V) (hq : 0 ≤ q ∧ q ≤ 1) : cRu h (rsel q r0 r1) (V q.toNat) (arcsV V q) (endsR V q) := by
  have : q = 0 ∨ q = 1 := by omega
  rcases this with rfl | rfl
  · exact H.2.2.1
  · exact H.2.2.2
theorem cCh.upd {h h' : HS} {c e r0 r1 k : Nat} {V V' : Nat → Int} {q : Int} (hq : 0 ≤ q ∧ q ≤ 1) (ap : c + 2 ≤ r0 ∧ r0 + 4 ≤ r1 ∧ r1 + 4 ≤ e) (H : cCh h c r0 r1 V) (hF : cFr (ruO (rsel q r0 r1)) h k h')
    (Hr : cRu h' (rsel q r0 r1) (V' q.toNat) (arcsV V' q) (endsR V' q)) (h14 : V' 14 = V 14) (h15 : V' 15 = V 15) (h16 : V' 16 = V 16) (hn : V' (1 - q).toNat = V (1 - q).toNat) (hL : arcsV V' (1 - q) = arcsV V (1 - q)) (hB : ∀ i, i < 5 → endsR V' (1 - q) i = endsR V (1 - q) i) :
    cCh h' c r0 r1 V' := by
  have hA := ruO_arc (H.rule hq)
  obtain ⟨h1, h2, h3, h4⟩ := H
  have : q = 0 ∨ q = 1 := by omega
  rcases this with rfl | rfl
  · have e0 : rsel 0 r0 r1 = r0 := rfl
    rw [e0] at hF Hr hA
    refine ⟨by rw [h14, h15, h16]; exact hF.at (fun q => by have := q.1; omega) h1, hF.at (fun q => by have := q.1; omega) h2, Hr, ?_⟩
    have k1 : cRu h' r1 (V 1) (arcsV V 1) (endsR V 1) := h4.keep hF (fun b q => by have := q.2; omega) hA
    have en : V' 1 = V 1 := hn
    have eL : arcsV V' 1 = arcsV V 1 := hL
    rw [en, eL]
    exact k1.congrB (fun i hi => hB i hi)
  · have e0 : rsel 1 r0 r1 = r1 := rfl
    rw [e0] at hF Hr hA
    refine ⟨by rw [h14, h15, h16]; exact hF.at (fun q => by have := q.1; omega) h1, hF.at (fun q => by have := q.1; omega) h2, ?_, Hr⟩
    have k1 : cRu h' r0 (V 0) (arcsV V 0) (endsR V 0) := h3.keep hF (fun b q => by have := q.1; omega) hA
    have en : V' 0 = V 0 := hn
    have eL : arcsV V' 0 = arcsV V 0 := hL
    rw [en, eL]
    exact k1.congrB (fun i hi => hB i hi)
/-- the cells of a choir that an order may change -/
def ciO (h : HS) (c e : Nat) : Nat → Prop := fun b => (c ≤ b ∧ b < e) ∧ ∀ j vs, h.1 b = some (j, vs) → j = 1 ∨ j = 2 ∨ j = 15 ∨ j = 103 ∨ j = 100
/-- what an order on a choir comes to -/
def ordQ (h : HS) (c e : Nat) (o : OR) (Q : Rs → HS → Prop) : Prop := (o.1 = -14 → noH h Q o.2.1 o.2.2.1) ∧ (0 ≤ o.1 → ∀ h', cFr (ciO h c e) h 13 h' → cCi h' c e o.2.2.2 → Q (.inl (some (.int (iI o.1)))) h')
theorem ordQ.ok {h : HS} {c e : Nat} {x y d : Int} {V' : Nat → Int} {Q : Rs → HS → Prop} (ho : ordQ h c e (x, y, d, V') Q) (hx : 0 ≤ x) : ∀ h', cFr (ciO h c e) h 13 h' → cCi h' c e V' → Q (.inl (some (.int (iI x)))) h' := ho.2 hx
theorem ordQ.no {h : HS} {c e : Nat} {y d : Int} {V' : Nat → Int} {Q : Rs → HS → Prop} (ho : ordQ h c e (-14, y, d, V') Q) : noH h Q y d := ho.1 (Eq.refl _)
theorem pEnds_nn (V : Nat → Int) (r : Int) : 0 ≤ pEnds V r := (sm_le (b := 1) (fun k _ => by unfold bI; split <;> omega)).1
theorem ruO_kd {h : HS} {r : Nat} {n : Int} {L : List AR} {B : Nat → Int} (H : cRu h r n L B) : ∀ b j vs, ruO r b → h.1 b = some (j, vs) → j = 1 ∨ j = 2 ∨ j = 15 ∨ j = 103 ∨ j = 100 := by
  obtain ⟨h1, h2, ⟨mc, f, h3⟩, h4, h5, h6⟩ := H
  intro b j vs ⟨o1, o2⟩ hb
  have : b = r ∨ b = r + 1 ∨ b = r + 2 ∨ b = r + 3 := by omega
  rcases this with e | e | e | e <;> subst e
  · rw [h2] at hb; cases hb; decide
  · rw [h3.1] at hb; cases hb; decide
  · rw [h3.2.1] at hb; cases hb; decide
  · rw [h4] at hb; cases hb; decide
theorem ruO_ci {c e r0 r1 k : Nat} {h h' : HS} {q : Int} {V : Nat → Int} (hq : 0 ≤ q ∧ q ≤ 1) (H : cCh h c r0 r1 V) (ap : c + 2 ≤ r0 ∧ r0 + 4 ≤ r1 ∧ r1 + 4 ≤ e) (hF : cFr (ruO (rsel q r0 r1)) h k h') (hk : k ≤ 13) : cFr (ciO h c e) h 13 h' :=
  cFr.tr (cFr.rfl hF.w0) hF (fun b _ hb => by
    refine ⟨?_, fun j vs hj => ruO_kd (H.rule hq) b j vs hb hj⟩
    obtain ⟨b1, b2⟩ := hb
    unfold rsel at b1 b2
    split at b1
    · rw [if_pos ‹_›] at b2; omega
    · rw [if_neg ‹_›] at b2; omega) (by omega)
theorem ciO_c {h : HS} {c e r0 r1 : Nat} {V : Nat → Int} (ap : c + 2 ≤ r0 ∧ r0 + 4 ≤ r1 ∧ r1 + 4 ≤ e) (H : cCh h c r0 r1 V) : ciO h c e c := ⟨⟨Nat.le_refl _, by omega⟩, fun j vs hj => by rw [H.1] at hj; cases hj; exact Or.inl rfl⟩
/-- another choir does not feel an order -/
theorem cCi.other {h h' : HS} {c e c' e' k : Nat} {W : Nat → Int} (H : cCi h c' e' W) (hF : cFr (ciO h c e) h k h') (ap : e ≤ c' ∨ e' ≤ c) : cCi h' c' e' W :=
  H.keep hF (fun b hb => by have := hb.1; omega) (fun b j vs hb hj => by have := hb.2 j vs hj; omega)
section C9L
variable {E : Nat → Value} {Q : Rs → HS → Prop} {h : HS} {c e r0 r1 : Nat} {V : Nat → Int} {q : Int}
theorem c_state (hE : rfv (E 12) ∧ rfv (E 13)) (hw : WF h) (hV : VI V) (hq : 0 ≤ q ∧ q ≤ 1) (ap : c + 2 ≤ r0 ∧ r0 + 4 ≤ r1 ∧ r1 + 4 ≤ e) (H : cCh h c r0 r1 V) (hc : cCr 20 h) (ho : ordQ h c e (pComes V q) Q) : wX3_tells E [.ref (rsel q r0 r1)] h Q := by
  have b := hV.1 q hq.1 hq.2
  have b' := hV.1 (1 - q) (by omega) (by omega)
  unfold pComes at ho
  rw [if_neg (by omega)] at ho
  refine c3_tells hE hw (H.rule hq) (hc.mono (by omega)) (fun e5 => ?_) (fun l5 h' hF Hr => ?_)
  · rw [if_pos e5] at ho
    exact ho.no
  · rw [if_neg (by omega)] at ho
    refine ho.ok (by omega) h' (ruO_ci hq H ap hF (by omega)) ⟨r0, r1, ap.1, ap.2.1, ap.2.2, H.upd hq ap hF ?_ ?_ ?_ ?_ ?_ (comes_arcs hV hq _ (by omega)) (fun i hi => comes_ends hV hq l5 _ (by omega) i hi)⟩
    · rw [comes_arcs hV hq q hq, show up (up V (4 + 5 * q + V q.toNat).toNat (-1)) q.toNat (V q.toNat + 1) q.toNat = V q.toNat + 1 from by rw [up_at, if_pos (Eq.refl _)]]
      exact Hr.congrB (fun i hi => comes_ends hV hq l5 q hq i hi)
    · simp only [up_at]; repeat rw [if_neg (by omega)]
    · simp only [up_at]; repeat rw [if_neg (by omega)]
    · simp only [up_at]; repeat rw [if_neg (by omega)]
    · simp only [up_at]; repeat rw [if_neg (by omega)]
theorem c_end {t w : Int} (hE : rfv (E 12) ∧ rfv (E 13)) (hw : WF h) (hV : VI V) (hq : 0 ≤ q ∧ q ≤ 1) (ht : 0 ≤ t ∧ t < V q.toNat) (hv : -1 ≤ w ∧ w ≤ 9) (ap : c + 2 ≤ r0 ∧ r0 + 4 ≤ r1 ∧ r1 + 4 ≤ e) (H : cCh h c r0 r1 V) (hc : cCr 20 h) (ho : ordQ h c e (pSets V q t w) Q) : wX3_ends E [.ref (rsel q r0 r1), .int (iI t), .int (iI w)] h Q := by
  have b := hV.1 q hq.1 hq.2
  have b' := hV.1 (1 - q) (by omega) (by omega)
  have et : (4 + 5 * q + (t.toNat : Int)).toNat = (4 + 5 * q + t).toNat := by omega
  unfold pSets at ho
  rw [if_neg (by omega), if_neg (by omega)] at ho
  refine c3_ends hE (by omega) hv hw (H.rule hq) (hc.mono (by omega)) (fun e5 => ?_) (fun l5 h' hF Hr => ?_)
  · rw [if_pos (by simpa only [endsR, et] using e5)] at ho
    exact ho.no
  · rw [if_neg (by simpa only [endsR, et] using l5)] at ho
    have hsm : sm (fun t' => bI (¬ up (endsR V q) t.toNat w t' < 0)) (V q.toNat).toNat = pEnds (up V (4 + 5 * q + t).toNat w) q := by
      unfold pEnds
      rw [show up V (4 + 5 * q + t).toNat w q.toNat = V q.toNat from by rw [up_at, if_neg (by omega)]]
      refine sm_congr (fun i hi => ?_)
      have := sets_ends (V := V) (w := w) hq (t := t) (by omega) i (by omega)
      simp only [endsR] at this
      rw [← this]
    have := ho.ok (pEnds_nn _ _) h' (ruO_ci hq H ap hF (by omega)) ⟨r0, r1, ap.1, ap.2.1, ap.2.2, H.upd hq ap hF (by
        rw [sets_arcs hq (by omega) q hq, show up V (4 + 5 * q + t).toNat w q.toNat = V q.toNat from by rw [up_at, if_neg (by omega)]]
        exact Hr.congrB (fun i hi => sets_ends hq (by omega) i hi)) (by simp only [up_at]; rw [if_neg (by omega)]) (by simp only [up_at]; rw [if_neg (by omega)]) (by simp only [up_at]; rw [if_neg (by omega)]) (by simp only [up_at]; rw [if_neg (by omega)]) (sets_arcs hq (by omega) _ (by omega)) (fun i hi => sets_oth hq (by omega) i hi)⟩
    rw [hsm]
    exact this
theorem c_weigh {a w : Int} (hE : rfv (E 12) ∧ rfv (E 13)) (hw : WF h) (hV : VI V) (hq : 0 ≤ q ∧ q ≤ 1) (ha : 0 ≤ a ∧ a < V (2 + q).toNat) (hv : 0 ≤ w ∧ w ≤ 9) (ap : c + 2 ≤ r0 ∧ r0 + 4 ≤ r1 ∧ r1 + 4 ≤ e) (H : cCh h c r0 r1 V) (hc : cCr 20 h) (ho : ordQ h c e (pWeighs V q a w) Q) : wX3_weighs E [.ref (rsel q r0 r1), .int (iI a), .int (iI w)] h Q := by
  have b := hV.1 q hq.1 hq.2
  have b' := hV.1 (1 - q) (by omega) (by omega)
  have bw := hV.2.2.1 q a hq.1 hq.2 ha.1 ha.2
  have ea : ((a.toNat : Nat) : Int) = a := by omega
  unfold pWeighs at ho
  rw [if_neg (by omega), if_neg (by omega)] at ho
  have hg : (arcsV V q)[a.toNat]? = some (arcI V q a) := by rw [arcsV_get (by omega), ea]
  refine c3_weighs hE (by rw [arcsV_len]; omega) hg hv hw (H.rule hq) (hc.mono (by omega)) (fun e5 => ?_) (fun l5 h' hF Hr => ?_)
  · rw [if_pos (by simpa only [arcI] using e5)] at ho
    exact ho.no
  · rw [if_neg (by simpa only [arcI] using l5)] at ho
    refine ho.ok (by omega) h' (ruO_ci hq H ap hF (by omega)) ⟨r0, r1, ap.1, ap.2.1, ap.2.2, H.upd hq ap hF ?_ ?_ ?_ ?_ ?_ (weighs_oth hV hq ha) (fun i hi => weighs_ends hq ha.1 _ (by omega) i hi)⟩
    · rw [weighs_arcs hV hq ha, show up V (17 + 60 * q + 5 * a + 4).toNat w q.toNat = V q.toNat from by rw [up_at, if_neg (by omega)]]
      exact Hr.congrB (fun i hi => weighs_ends hq ha.1 q hq i hi)
    · simp only [up_at]; rw [if_neg (by omega)]
    · simp only [up_at]; rw [if_neg (by omega)]
    · simp only [up_at]; rw [if_neg (by omega)]
    · simp only [up_at]; rw [if_neg (by omega)]
end C9L
