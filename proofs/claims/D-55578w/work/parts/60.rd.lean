/-! PURE: readings of a word, whichever way they were found -/
set_option maxRecDepth 100000
def exA (a : AR) (x : V3) : V3 := ex (0, 0, a.2.2.2.2.toNat, a.2.2.2.1.toNat) x
/-- with that label one comes to that state when so many letters are read -/
def Rd (L : List AR) (T : Int) (word : Nat → Int) (t pos : Nat) (x : V3) : Prop := ∀ R : Nat → Nat → V3 → Prop, R 0 0 (0, 0, 0) →
  (∀ a ∈ L, ∀ pos y, R a.1.toNat pos y → (a.2.2.1 = 4 → R a.2.1.toNat pos (exA a y)) ∧ (a.2.2.1 ≠ 4 → (pos : Int) < T → word pos - 97 = a.2.2.1 → R a.2.1.toNat (pos + 1) (exA a y))) → R t pos x
theorem Rd.start {L : List AR} {T : Int} {word : Nat → Int} : Rd L T word 0 0 (0, 0, 0) := fun _ h _ => h
theorem Rd.breath {L : List AR} {T : Int} {word : Nat → Int} {a : AR} {pos : Nat} {y : V3} (h : Rd L T word a.1.toNat pos y) (ha : a ∈ L) (h4 : a.2.2.1 = 4) : Rd L T word a.2.1.toNat pos (exA a y) :=
  fun R h0 hR => (hR a ha pos y (h R h0 hR)).1 h4
theorem Rd.letter {L : List AR} {T : Int} {word : Nat → Int} {a : AR} {pos : Nat} {y : V3} (h : Rd L T word a.1.toNat pos y) (ha : a ∈ L) (h4 : a.2.2.1 ≠ 4) (hp : (pos : Int) < T) (hw : word pos - 97 = a.2.2.1) : Rd L T word a.2.1.toNat (pos + 1) (exA a y) :=
  fun R h0 hR => (hR a ha pos y (h R h0 hR)).2 h4 hp hw
/-- the least reading, with the weight of its end -/
def Best (L : List AR) (ends : Nat → Int) (T : Int) (word : Nat → Int) (r : Option V3) : Prop :=
  (∀ x, r = some x → ∃ t y, Rd L T word t T.toNat y ∧ 0 ≤ ends t ∧ x = (y.1 + (ends t).toNat, y.2)) ∧
  ∀ t y, Rd L T word t T.toNat y → 0 ≤ ends t → ∃ x, r = some x ∧ le3 x (y.1 + (ends t).toNat, y.2)
theorem Best.uniq {L : List AR} {ends : Nat → Int} {T : Int} {word : Nat → Int} {r r' : Option V3} (h : Best L ends T word r) (h' : Best L ends T word r') : r = r' := by
  cases r with
  | none =>
    cases r' with
    | none => rfl
    | some x =>
      obtain ⟨t, y, h1, h2, h3⟩ := h'.1 x rfl
      obtain ⟨z, h4, -⟩ := h.2 t y h1 h2
      cases h4
  | some x =>
    obtain ⟨t, y, h1, h2, h3⟩ := h.1 x rfl
    obtain ⟨x', h4, h5⟩ := h'.2 t y h1 h2
    obtain ⟨t', y', h6, h7, h8⟩ := h'.1 x' h4
    obtain ⟨x'', h9, h10⟩ := h.2 t' y' h6 h7
    cases h9
    rw [h4]
    rw [← h3] at h5
    rw [← h8] at h10
    rw [le3_anti h10 h5]
/-- the song of a label -/
def SongOf (x : V3) (l : List Int) : Prop := l.length = x.2.1 ∧ (∀ c ∈ l, 97 ≤ c ∧ c ≤ 100) ∧ dg (fun k => l.getD k 0 - 97) x.2.1 = x.2.2
theorem SongOf.uniq {x : V3} {l l' : List Int} (h : SongOf x l) (h' : SongOf x l') : l = l' := by
  obtain ⟨h1, h2, h3⟩ := h
  obtain ⟨h1', h2', h3'⟩ := h'
  have d : ∀ (l : List Int), l.length = x.2.1 → (∀ c ∈ l, 97 ≤ c ∧ c ≤ 100) → ∀ k, k < x.2.1 → 0 ≤ l.getD k 0 - 97 ∧ l.getD k 0 - 97 ≤ 3 := by
    intro l hl hc k hk
    rw [List.getD_eq_getElem?_getD, List.getElem?_eq_getElem (by omega)]
    have := hc _ (List.getElem_mem (show k < l.length by omega))
    simp only [Option.getD_some]
    omega
  have := dg_inj (n := x.2.1) (d l h1 h2) (d l' h1' h2') (by rw [h3, h3'])
  apply List.ext_getElem
  · rw [h1, h1']
  · intro k hk hk'
    have h9 := this k (by omega)
    rw [List.getD_eq_getElem?_getD, List.getD_eq_getElem?_getD, List.getElem?_eq_getElem hk, List.getElem?_eq_getElem hk'] at h9
    simp only [Option.getD_some] at h9
    omega
/-- the model's places -/
theorem prodM_Rd {L : List AR} {n T : Int} {word : Nat → Int} (hk : okR n L) (hT : 0 ≤ T ∧ T ≤ 8) {v : Nat} {x : V3} (h : Der src0 (prodM T word L) v x) : ∃ t pos : Nat, v = 9 * t + pos ∧ (pos : Int) ≤ T ∧ Rd L T word t pos x := by
  refine h (fun v x => ∃ t pos : Nat, v = 9 * t + pos ∧ (pos : Int) ≤ T ∧ Rd L T word t pos x) (fun u y hu => ?_) (fun g hg y hy => ?_)
  · obtain ⟨h1, h2⟩ := src0_0 hu
    subst h1 h2
    exact ⟨0, 0, rfl, by omega, Rd.start⟩
  · obtain ⟨t, pos, h1, h2, h3⟩ := hy
    obtain ⟨a, ha, hga⟩ := List.mem_flatMap.1 hg
    obtain ⟨pos', p1, p2, p3⟩ := prodA_mem.1 hga
    have e1 : g.1 = 9 * a.1.toNat + pos' := by rw [p3]
    have e2 : g.2.1 = 9 * a.2.1.toNat + pos' + (if a.2.2.1 = 4 then 0 else 1) := by rw [p3]
    have e3 : ex g y = exA a y := by rw [p3]; rfl
    have e4 : pos' = pos := by omega
    have e5 : a.1.toNat = t := by omega
    subst e4 e5
    rw [e2, e3]
    by_cases h4 : a.2.2.1 = 4
    · exact ⟨a.2.1.toNat, pos', by rw [if_pos h4]; omega, h2, h3.breath ha h4⟩
    · have p4 := p2.1
      rw [if_neg h4] at p4
      exact ⟨a.2.1.toNat, pos' + 1, by rw [if_neg h4]; omega, by omega, h3.letter ha h4 (by omega) (p2.2.resolve_left h4)⟩
theorem Rd_prodM {L : List AR} {T : Int} {word : Nat → Int} (hT : 0 ≤ T ∧ T ≤ 8) {t pos : Nat} {x : V3} (h : Rd L T word t pos x) : (pos : Int) ≤ T ∧ Der src0 (prodM T word L) (9 * t + pos) x := by
  refine h (fun t pos x => (pos : Int) ≤ T ∧ Der src0 (prodM T word L) (9 * t + pos) x) ⟨by omega, fun R h0 _ => h0 _ _ rfl⟩ (fun a ha pos y hy => ⟨fun h4 => ⟨hy.1, ?_⟩, fun h4 hp hw => ⟨by omega, ?_⟩⟩)
  · intro R h0 hR
    have := hR (9 * a.1.toNat + pos, 9 * a.2.1.toNat + pos + (if a.2.2.1 = 4 then 0 else 1), a.2.2.2.2.toNat, a.2.2.2.1.toNat) (List.mem_flatMap.2 ⟨a, ha, prodA_mem.2 ⟨pos, by omega, ⟨by rw [if_pos h4]; omega, Or.inl h4⟩, rfl⟩⟩) y (hy.2 R h0 hR)
    simp only [if_pos h4] at this
    exact this
  · intro R h0 hR
    have := hR (9 * a.1.toNat + pos, 9 * a.2.1.toNat + pos + (if a.2.2.1 = 4 then 0 else 1), a.2.2.2.2.toNat, a.2.2.2.1.toNat) (List.mem_flatMap.2 ⟨a, ha, prodA_mem.2 ⟨pos, by omega, ⟨by rw [if_neg h4]; omega, Or.inr hw⟩, rfl⟩⟩) y (hy.2 R h0 hR)
    simp only [if_neg h4] at this
    exact this
theorem Best_M {L : List AR} {n T : Int} {word B : Nat → Int} {f : Lb} (hk : okR n L) (hT : 0 ≤ T ∧ T ≤ 8) (hL : Lst src0 (prodM T word L) f) {r : Option V3}
    (h1 : r = none → ∀ u x, f u = some x → ((u % 9 : Nat) : Int) = T → B (u / 9) < 0)
    (h2 : ∀ x, r = some x → ∃ b y, f b = some y ∧ ((b % 9 : Nat) : Int) = T ∧ 0 ≤ B (b / 9) ∧ x = (y.1 + (B (b / 9)).toNat, y.2) ∧ ∀ u z, f u = some z → ((u % 9 : Nat) : Int) = T → 0 ≤ B (u / 9) → le3 x (z.1 + (B (u / 9)).toNat, z.2)) : Best L B T word r := by
  refine ⟨fun x hx => ?_, fun t y hR hB => ?_⟩
  · obtain ⟨b, y, q1, q2, q3, q4, -⟩ := h2 x hx
    obtain ⟨t, pos, w1, w2, w3⟩ := prodM_Rd hk hT (hL.1 b y q1)
    have e1 : pos = T.toNat := by omega
    have e2 : b / 9 = t := by omega
    subst e1
    rw [e2] at q3 q4
    exact ⟨t, y, w3, q3, q4⟩
  · obtain ⟨w1, w2⟩ := Rd_prodM hT hR
    obtain ⟨z, w3, w4⟩ := hL.2 _ _ w2
    have e1 : (9 * t + T.toNat) / 9 = t := by omega
    have e2 : (((9 * t + T.toNat) % 9 : Nat) : Int) = T := by omega
    cases r with
    | none =>
      have := h1 rfl _ z w3 e2
      rw [e1] at this
      omega
    | some x =>
      obtain ⟨-, -, -, -, -, -, q5⟩ := h2 x rfl
      have := q5 _ z w3 e2 (by rw [e1]; exact hB)
      rw [e1] at this
      refine ⟨x, rfl, le3_trans this ?_⟩
      simp only [le3, l3] at w4 ⊢
      omega
theorem okR_arcsV {V : Nat → Int} (hV : VI V) {r : Int} (hr : 0 ≤ r ∧ r ≤ 1) : okR (V r.toNat) (arcsV V r) := by
  intro a ha
  obtain ⟨j, hj, rfl⟩ := List.mem_map.1 ha
  have := List.mem_range.1 hj
  have w := hV.2.2.1 r j hr.1 hr.2 (by omega) (by omega)
  simp only [arcI]
  omega
theorem okR_bothV {V : Nat → Int} (hV : VI V) : okR 25 (bothV (fun p q => 5 * p + q) V) := by
  have v1 := hV.1 1 (by omega) (by omega)
  have v0 := hV.1 0 (by omega) (by omega)
  simp only [Int.reduceToNat, Int.reduceAdd] at v0 v1
  have w : ∀ (r : Int) (j : Nat), 0 ≤ r ∧ r ≤ 1 → (j : Int) < V (2 + r).toNat → (0 ≤ (arcI V r j).1 ∧ (arcI V r j).1 < V r.toNat) ∧ (0 ≤ (arcI V r j).2.1 ∧ (arcI V r j).2.1 < V r.toNat) ∧ (0 ≤ (arcI V r j).2.2.1 ∧ (arcI V r j).2.2.1 ≤ 4) ∧ (0 ≤ (arcI V r j).2.2.2.1 ∧ (arcI V r j).2.2.2.1 ≤ 4) ∧ (0 ≤ (arcI V r j).2.2.2.2 ∧ (arcI V r j).2.2.2.2 ≤ 9) :=
    fun r j hr hj => hV.2.2.1 r j hr.1 hr.2 (by omega) hj
  intro a ha
  rcases List.mem_append.1 ha with ha | ha
  · obtain ⟨i, hi, ha⟩ := List.mem_flatMap.1 ha
    have hi := List.mem_range.1 hi
    have wi := w 0 i (by omega) (by simp only [Int.reduceToNat, Int.reduceAdd]; omega)
    simp only [Int.reduceToNat] at wi
    unfold firstV at ha
    split at ha
    · obtain ⟨q, hq, rfl⟩ := List.mem_map.1 ha
      have := List.mem_range.1 hq
      simp only
      omega
    · obtain ⟨b, hb, he⟩ := List.mem_filterMap.1 ha
      have hb := List.mem_range.1 hb
      have wb := w 1 b (by omega) (by simp only [Int.reduceToNat, Int.reduceAdd]; omega)
      simp only [Int.reduceToNat] at wb
      split at he
      · have := Option.some.inj he
        subst this
        simp only
        omega
      · cases he
  · obtain ⟨b, hb, ha⟩ := List.mem_flatMap.1 ha
    have hb := List.mem_range.1 hb
    have wb := w 1 b (by omega) (by simp only [Int.reduceToNat, Int.reduceAdd]; omega)
    simp only [Int.reduceToNat] at wb
    split at ha
    · obtain ⟨q, hq, rfl⟩ := List.mem_map.1 ha
      have := List.mem_range.1 hq
      simp only
      omega
    · cases ha
theorem bothV_len {V : Nat → Int} (hV : VI V) (pr : Int → Int → Int) : (bothV pr V).length ≤ 204 := by
  have v1 := hV.1 1 (by omega) (by omega)
  have v0 := hV.1 0 (by omega) (by omega)
  simp only [Int.reduceToNat, Int.reduceAdd] at v0 v1
  have l1 := firstN_len pr V (V 2).toNat (by omega) (by omega)
  have l2 := secondN_len pr V (V 3).toNat (by omega)
  unfold bothV
  rw [List.length_append]
  omega
