/-! PURE: the composed rule in both numberings -/
set_option maxRecDepth 100000
theorem fmc {α β : Type} {L : List α} {f g : α → Option β} (h : ∀ a ∈ L, f a = g a) : L.filterMap f = L.filterMap g := by
  induction L with
  | nil => rfl
  | cons a L ih =>
    rw [List.filterMap_cons, List.filterMap_cons, h a List.mem_cons_self, ih (fun b hb => h b (List.mem_cons_of_mem _ hb))]
/-- an arc between other states -/
def mpA (g : Nat → Nat) (a : AR) : AR := (((g a.1.toNat : Nat) : Int), ((g a.2.1.toNat : Nat) : Int), a.2.2)
theorem mpA_1 (g : Nat → Nat) (a : AR) : (mpA g a).1.toNat = g a.1.toNat := Int.toNat_natCast _
theorem mpA_2 (g : Nat → Nat) (a : AR) : (mpA g a).2.1.toNat = g a.2.1.toNat := Int.toNat_natCast _
/-- the arcs of both in another numbering -/
theorem both_map {V : Nat → Int} (hV : VI V) {pr1 pr2 : Int → Int → Int} {g : Nat → Nat} (hg : ∀ p q, 0 ≤ p → p < V 0 → 0 ≤ q → q < V 1 → ((g (pr2 p q).toNat : Nat) : Int) = pr1 p q) : bothV pr1 V = (bothV pr2 V).map (mpA g) := by
  have v0 := hV.1 0 (by omega) (by omega)
  have v1 := hV.1 1 (by omega) (by omega)
  simp only [Int.reduceToNat, Int.reduceAdd] at v0 v1
  have a0 : ∀ a : Nat, (a : Int) < V 2 → (0 ≤ (arcI V 0 a).1 ∧ (arcI V 0 a).1 < V 0) ∧ (0 ≤ (arcI V 0 a).2.1 ∧ (arcI V 0 a).2.1 < V 0) := fun a ha => by
    have := hV.2.2.1 0 a (by omega) (by omega) (by omega) ha
    exact ⟨this.1, this.2.1⟩
  have a1 : ∀ a : Nat, (a : Int) < V 3 → (0 ≤ (arcI V 1 a).1 ∧ (arcI V 1 a).1 < V 1) ∧ (0 ≤ (arcI V 1 a).2.1 ∧ (arcI V 1 a).2.1 < V 1) := fun a ha => by
    have := hV.2.2.1 1 a (by omega) (by omega) (by omega) ha
    exact ⟨this.1, this.2.1⟩
  unfold bothV firstN secondN
  rw [List.map_append, List.map_flatMap, List.map_flatMap]
  congr 1
  · refine fl_congr (fun a ha => ?_)
    have ha := List.mem_range.1 ha
    have b0 := a0 a (by omega)
    unfold firstV
    split
    · unfold aloneN
      rw [List.map_map]
      apply List.map_congr_left
      intro q hq
      have hq := List.mem_range.1 hq
      simp only [Function.comp, mpA]
      rw [hg _ _ b0.1.1 b0.1.2 (by omega) (by omega), hg _ _ b0.2.1 b0.2.2 (by omega) (by omega)]
    · unfold withN
      rw [List.map_filterMap]
      refine fmc (fun b hb => ?_)
      have hb := List.mem_range.1 hb
      have b1 := a1 b (by omega)
      split
      · simp only [Option.map_some, mpA]
        rw [hg _ _ b0.1.1 b0.1.2 b1.1.1 b1.1.2, hg _ _ b0.2.1 b0.2.2 b1.2.1 b1.2.2]
      · rfl
  · refine fl_congr (fun b hb => ?_)
    have hb := List.mem_range.1 hb
    have b1 := a1 b (by omega)
    split
    · unfold breathN
      rw [List.map_map]
      apply List.map_congr_left
      intro p hp
      have hp := List.mem_range.1 hp
      simp only [Function.comp, mpA]
      rw [hg _ _ (by omega) (by omega) b1.1.1 b1.1.2, hg _ _ (by omega) (by omega) b1.2.1 b1.2.2]
    · rfl
/-- from fives to as many as the second rule has, and back -/
def gC (s : Nat) (t : Nat) : Nat := s * (t / 5) + t % 5
def gD (s : Nat) (u : Nat) : Nat := 5 * (u / s) + u % s
theorem gD_at {s p q : Nat} (hq : q < s) : gD s (s * p + q) = 5 * p + q := by
  unfold gD
  rw [Nat.mul_add_div (by omega), Nat.mul_add_mod, Nat.div_eq_of_lt hq, Nat.mod_eq_of_lt hq]
  rfl
theorem gC_at {s p q : Nat} (hq : q < 5) : gC s (5 * p + q) = s * p + q := by
  unfold gC
  rw [show (5 * p + q) / 5 = p by omega, show (5 * p + q) % 5 = q by omega]
theorem pr_nat {s p q : Int} (hs : 0 ≤ s) (hp : 0 ≤ p) (hq : 0 ≤ q) : s * p + q = ((s.toNat * p.toNat + q.toNat : Nat) : Int) := by
  rw [Int.natCast_add, Int.natCast_mul, Int.toNat_of_nonneg hs, Int.toNat_of_nonneg hp, Int.toNat_of_nonneg hq]
theorem both_C {V : Nat → Int} (hV : VI V) : bothV (fun p q => V 1 * p + q) V = (bothV (fun p q => 5 * p + q) V).map (mpA (gC (V 1).toNat)) := by
  have v1 := hV.1 1 (by omega) (by omega)
  simp only [Int.reduceToNat, Int.reduceAdd] at v1
  refine both_map hV (fun p q h1 h2 h3 h4 => ?_)
  rw [pr_nat (by omega) h1 h3, pr_nat (by omega) h1 h3, Int.toNat_natCast, show (5 : Int).toNat = 5 from rfl, gC_at (by omega)]
theorem both_D {V : Nat → Int} (hV : VI V) : bothV (fun p q => 5 * p + q) V = (bothV (fun p q => V 1 * p + q) V).map (mpA (gD (V 1).toNat)) := by
  have v1 := hV.1 1 (by omega) (by omega)
  simp only [Int.reduceToNat, Int.reduceAdd] at v1
  refine both_map hV (fun p q h1 h2 h3 h4 => ?_)
  rw [pr_nat (by omega) h1 h3, pr_nat (by omega) h1 h3, Int.toNat_natCast, show (5 : Int).toNat = 5 from rfl, gD_at (by omega)]
theorem Rd_map {L : List AR} {T : Int} {word : Nat → Int} {g : Nat → Nat} (h0 : g 0 = 0) {t pos : Nat} {x : V3} (h : Rd L T word t pos x) : Rd (L.map (mpA g)) T word (g t) pos x := by
  refine h (fun t pos x => Rd (L.map (mpA g)) T word (g t) pos x) ?_ ?_
  · rw [h0]; exact Rd.start
  · intro a ha pos y hy
    have hm : mpA g a ∈ L.map (mpA g) := List.mem_map_of_mem ha
    rw [← mpA_1 g a] at hy
    constructor
    · intro h4
      have := Rd.breath hy hm h4
      rw [mpA_2] at this
      exact this
    · intro h4 hp hc
      have := Rd.letter hy hm h4 hp hc
      rw [mpA_2] at this
      exact this
/-- the ends of both -/
theorem endB_c {V : Nat → Int} (hV : VI V) {p q : Nat} (hp : p < 5) (hq : q < 5) : endB V p q = if endsR V 0 p = -1 ∨ endsR V 1 q = -1 then -1 else endsR V 0 p + endsR V 1 q := by
  have e0 := hV.2.1 0 p (by omega) (by omega) (by omega) (by omega)
  have e1 := hV.2.1 1 q (by omega) (by omega) (by omega) (by omega)
  unfold endB endsR
  rw [show (4 + 5 * 0 + (p : Int)).toNat = (4 + (p : Int)).toNat by congr 1, show (4 + 5 * 1 + (q : Int)).toNat = (9 + (q : Int)).toNat by congr 1] at *
  by_cases c : V (4 + (p : Int)).toNat < 0 ∨ V (9 + (q : Int)).toNat < 0
  · rw [if_pos c, if_pos (by omega)]
  · rw [if_neg c, if_neg (by omega)]
theorem cEn_at {s1 : Int} {B0 B1 : Nat → Int} {p q : Nat} (hq : (q : Int) < s1) : cEn s1 B0 B1 (s1.toNat * p + q) = if B0 p = -1 ∨ B1 q = -1 then -1 else B0 p + B1 q := by
  have h : q < s1.toNat := by omega
  unfold cEn
  rw [Nat.mul_add_div (by omega), Nat.mul_add_mod, Nat.div_eq_of_lt h, Nat.mod_eq_of_lt h, Nat.add_zero]
/-- a state of both, either way -/
theorem ends_C {V : Nat → Int} (hV : VI V) {p q : Nat} (hp : (p : Int) < V 0) (hq : (q : Int) < V 1) : cEn (V 1) (endsR V 0) (endsR V 1) ((V 1).toNat * p + q) = endsB V (5 * p + q) := by
  have v0 := hV.1 0 (by omega) (by omega)
  have v1 := hV.1 1 (by omega) (by omega)
  simp only [Int.reduceToNat, Int.reduceAdd] at v0 v1
  rw [cEn_at hq]
  unfold endsB
  rw [show (5 * p + q) / 5 = p by omega, show (5 * p + q) % 5 = q by omega, endB_c hV (by omega) (by omega)]
theorem ends_valid {V : Nat → Int} (hV : VI V) {t : Nat} (ht : t < 25) (h : 0 ≤ endsB V t) : ((t / 5 : Nat) : Int) < V 0 ∧ ((t % 5 : Nat) : Int) < V 1 := by
  have e0 := hV.2.1 0 ((t / 5 : Nat) : Int) (by omega) (by omega) (by omega) (by omega)
  have e1 := hV.2.1 1 ((t % 5 : Nat) : Int) (by omega) (by omega) (by omega) (by omega)
  have z0 : (0 : Int).toNat = 0 := rfl
  have z1 : (1 : Int).toNat = 1 := rfl
  rw [z0] at e0
  rw [z1] at e1
  unfold endsB endB at h
  rw [show (4 + 5 * 0 + ((t / 5 : Nat) : Int)).toNat = (4 + ((t / 5 : Nat) : Int)).toNat by congr 1] at e0
  rw [show (4 + 5 * 1 + ((t % 5 : Nat) : Int)).toNat = (9 + ((t % 5 : Nat) : Int)).toNat by congr 1] at e1
  split at h
  · omega
  · rename_i c
    constructor
    · by_cases q : ((t / 5 : Nat) : Int) < V 0
      · exact q
      · have := e0.2.2 (by omega); omega
    · by_cases q : ((t % 5 : Nat) : Int) < V 1
      · exact q
      · have := e1.2.2 (by omega); omega
theorem pq_of {s u n : Nat} (hs : 0 < s) (hu : u < n * s) : ∃ p q, u = s * p + q ∧ p < n ∧ q < s := by
  refine ⟨u / s, u % s, (Nat.div_add_mod u s).symm, ?_, Nat.mod_lt _ hs⟩
  exact (Nat.div_lt_iff_lt_mul hs).2 hu
theorem okR_both1 {V : Nat → Int} (hV : VI V) : okR (V 0 * V 1) (bothV (fun p q => V 1 * p + q) V) := by
  have v0 := hV.1 0 (by omega) (by omega)
  have v1 := hV.1 1 (by omega) (by omega)
  simp only [Int.reduceToNat, Int.reduceAdd] at v0 v1
  rw [← bothL_V]
  exact okR_bothL (okR_arcsV hV (by omega)) (okR_arcsV hV (by omega)) (arcsV_9 hV (by omega)) (arcsV_9 hV (by omega)) (by omega) (by omega)
theorem mulN {V : Nat → Int} (hV : VI V) : (V 0 * V 1).toNat = (V 0).toNat * (V 1).toNat ∧ ((((V 0).toNat * (V 1).toNat : Nat)) : Int) = V 0 * V 1 := by
  have v0 := hV.1 0 (by omega) (by omega)
  have v1 := hV.1 1 (by omega) (by omega)
  simp only [Int.reduceToNat, Int.reduceAdd] at v0 v1
  have e : V 0 * V 1 = (((V 0).toNat * (V 1).toNat : Nat) : Int) := by
    rw [Int.natCast_mul, Int.toNat_of_nonneg (by omega), Int.toNat_of_nonneg (by omega)]
  exact ⟨by rw [e, Int.toNat_natCast], e.symm⟩
theorem pq_of_Z {V : Nat → Int} (hV : VI V) {u : Nat} (hu : (u : Int) < V 0 * V 1) : ∃ p q : Nat, u = (V 1).toNat * p + q ∧ (p : Int) < V 0 ∧ (q : Int) < V 1 ∧ p < 5 ∧ q < 5 := by
  have v0 := hV.1 0 (by omega) (by omega)
  have v1 := hV.1 1 (by omega) (by omega)
  simp only [Int.reduceToNat, Int.reduceAdd] at v0 v1
  have m := (mulN hV).2
  obtain ⟨p, q, e, hp, hq⟩ := pq_of (s := (V 1).toNat) (u := u) (n := (V 0).toNat) (by omega) (by omega)
  exact ⟨p, q, e, by omega, by omega, by omega, by omega⟩
theorem gC_lt {V : Nat → Int} (hV : VI V) {p q : Nat} (hp : (p : Int) < V 0) (hq : (q : Int) < V 1) : (((V 1).toNat * p + q : Nat) : Int) < V 0 * V 1 := by
  have v0 := hV.1 0 (by omega) (by omega)
  have v1 := hV.1 1 (by omega) (by omega)
  simp only [Int.reduceToNat, Int.reduceAdd] at v0 v1
  have m := (mulN hV).2
  have h1 : (V 1).toNat * (p + 1) ≤ (V 1).toNat * (V 0).toNat := Nat.mul_le_mul_left _ (by omega)
  rw [Nat.mul_comm (V 1).toNat (V 0).toNat, Nat.mul_add, Nat.mul_one] at h1
  omega
/-- the best reading of both does not feel the numbering -/
theorem Best_D {V : Nat → Int} (hV : VI V) {T : Nat} {word : Nat → Int} {b : Option V3} (h : Best (bothV (fun p q => V 1 * p + q) V) (cEn (V 1) (endsR V 0) (endsR V 1)) T word b) : Best (bothV (fun p q => 5 * p + q) V) (endsB V) T word b := by
  have v0 := hV.1 0 (by omega) (by omega)
  have v1 := hV.1 1 (by omega) (by omega)
  simp only [Int.reduceToNat, Int.reduceAdd] at v0 v1
  have hn : 1 ≤ V 0 * V 1 := by
    have := Int.mul_le_mul (show 1 ≤ V 0 by omega) (show 1 ≤ V 1 by omega) (by omega) (by omega)
    omega
  constructor
  · intro x hx
    obtain ⟨t, y, h1, h2, h3⟩ := h.1 x hx
    have lt := (Rd.lt hn (okR_both1 hV) (by omega) h1).1
    obtain ⟨p, q, rfl, hp, hq, hp5, hq5⟩ := pq_of_Z hV lt
    rw [ends_C hV hp hq] at h2 h3
    have := Rd_map (g := gD (V 1).toNat) (by simp [gD]) h1
    rw [← both_D hV, gD_at (by omega)] at this
    exact ⟨_, y, this, h2, h3⟩
  · intro t y h1 h2
    have lt := (Rd.lt (by omega) (okR_bothV hV) (by omega) h1).1
    obtain ⟨hp, hq⟩ := ends_valid hV (by omega) h2
    have et : t = 5 * (t / 5) + t % 5 := by omega
    have h1' := Rd_map (g := gC (V 1).toNat) (by simp [gC]) h1
    rw [← both_C hV] at h1'
    rw [et, ← ends_C hV hp hq] at h2 ⊢
    exact h.2 _ y h1' h2
theorem Best_U {V : Nat → Int} (hV : VI V) {T : Nat} {word : Nat → Int} {b : Option V3} (h : Best (bothV (fun p q => 5 * p + q) V) (endsB V) T word b) : Best (bothV (fun p q => V 1 * p + q) V) (cEn (V 1) (endsR V 0) (endsR V 1)) T word b := by
  have v0 := hV.1 0 (by omega) (by omega)
  have v1 := hV.1 1 (by omega) (by omega)
  simp only [Int.reduceToNat, Int.reduceAdd] at v0 v1
  have hn : 1 ≤ V 0 * V 1 := by
    have := Int.mul_le_mul (show 1 ≤ V 0 by omega) (show 1 ≤ V 1 by omega) (by omega) (by omega)
    omega
  constructor
  · intro x hx
    obtain ⟨t, y, h1, h2, h3⟩ := h.1 x hx
    have lt := (Rd.lt (by omega) (okR_bothV hV) (by omega) h1).1
    obtain ⟨hp, hq⟩ := ends_valid hV (by omega) h2
    have et : t = 5 * (t / 5) + t % 5 := by omega
    have h1' := Rd_map (g := gC (V 1).toNat) (by simp [gC]) h1
    rw [← both_C hV] at h1'
    rw [et, ← ends_C hV hp hq] at h2 h3
    exact ⟨_, y, h1', h2, h3⟩
  · intro t y h1 h2
    have lt := (Rd.lt hn (okR_both1 hV) (by omega) h1).1
    obtain ⟨p, q, rfl, hp, hq, hp5, hq5⟩ := pq_of_Z hV lt
    rw [ends_C hV hp hq] at h2 ⊢
    have := Rd_map (g := gD (V 1).toNat) (by simp [gD]) h1
    rw [← both_D hV, gD_at (by omega)] at this
    exact h.2 _ y this h2
/-! what is reached and of use, either way -/
theorem Der_sim {f f' : Lb} {G G' : List GA} (k : Nat → Nat) (hs : ∀ u y, f u = some y → f' (k u) = some y) (hg : ∀ a ∈ G, (k a.1, k a.2.1, a.2.2) ∈ G') {v : Nat} {x : V3} (h : Der f G v x) : Der f' G' (k v) x :=
  fun R h1 h2 => h (fun v x => R (k v) x) (fun u y hu => h1 _ _ (hs u y hu)) (fun a ha y hy => h2 _ (hg a ha) y hy)
theorem Lst_toL {f : Lb} {G : List GA} {b : Nat → Bool} (h : Lst f G (toL b)) (v : Nat) : b v = true ↔ Der f G v (0, 0, 0) := by
  constructor
  · intro hb
    exact h.1 v _ (toL_some.2 ⟨hb, rfl⟩)
  · intro hd
    obtain ⟨z, hz, -⟩ := h.2 v _ hd
    exact (toL_some.1 hz).1
theorem zA_map (g : Nat → Nat) (L : List AR) : ∀ a ∈ L.map zA, (g a.1, g a.2.1, a.2.2) ∈ (L.map (mpA g)).map zA := by
  intro a ha
  obtain ⟨x, hx, rfl⟩ := List.mem_map.1 ha
  refine List.mem_map.2 ⟨mpA g x, List.mem_map_of_mem hx, ?_⟩
  simp only [zA, mpA_1, mpA_2]
theorem zR_map (g : Nat → Nat) (L : List AR) : ∀ a ∈ L.map zR, (g a.1, g a.2.1, a.2.2) ∈ (L.map (mpA g)).map zR := by
  intro a ha
  obtain ⟨x, hx, rfl⟩ := List.mem_map.1 ha
  refine List.mem_map.2 ⟨mpA g x, List.mem_map_of_mem hx, ?_⟩
  simp only [zR, mpA_1, mpA_2]
theorem src0_s {u : Nat} {y : V3} (h : src0 u = some y) : u = 0 ∧ y = (0, 0, 0) := by
  obtain ⟨h1, h2⟩ := toL_some.1 h
  exact ⟨by simpa using h1, h2⟩
theorem src0_k {k : Nat → Nat} (h0 : k 0 = 0) : ∀ u y, src0 u = some y → src0 (k u) = some y := by
  intro u y h
  obtain ⟨rfl, rfl⟩ := src0_s h
  rw [h0]
  exact toL_some.2 ⟨rfl, rfl⟩
theorem endL_s {n : Int} {B : Nat → Int} {u : Nat} {y : V3} : endL n B u = some y ↔ ((u : Int) < n ∧ 0 ≤ B u) ∧ y = (0, 0, 0) := by
  unfold endL
  rw [toL_some]
  simp
/-- a state of both that is reached is a pair -/
theorem Der_valid {V : Nat → Int} (hV : VI V) {t : Nat} {x : V3} (h : Der src0 ((bothV (fun p q => 5 * p + q) V).map zA) t x) : ∃ p q : Nat, t = 5 * p + q ∧ (p : Int) < V 0 ∧ (q : Int) < V 1 ∧ p < 5 ∧ q < 5 := by
  have v0 := hV.1 0 (by omega) (by omega)
  have v1 := hV.1 1 (by omega) (by omega)
  simp only [Int.reduceToNat, Int.reduceAdd] at v0 v1
  refine h (fun t _ => ∃ p q : Nat, t = 5 * p + q ∧ (p : Int) < V 0 ∧ (q : Int) < V 1 ∧ p < 5 ∧ q < 5) (fun u y hu => ?_) (fun a ha y _ => ?_)
  · obtain ⟨rfl, -⟩ := src0_s hu
    exact ⟨0, 0, rfl, by omega, by omega, by omega, by omega⟩
  · obtain ⟨z, hz, rfl⟩ := List.mem_map.1 ha
    rw [both_D hV] at hz
    obtain ⟨w, hw, rfl⟩ := List.mem_map.1 hz
    have ok := okR_both1 hV w hw
    obtain ⟨p, q, e, hp, hq, hp5, hq5⟩ := pq_of_Z hV (u := w.2.1.toNat) (by omega)
    refine ⟨p, q, ?_, hp, hq, hp5, hq5⟩
    simp only [zA, mpA_2]
    rw [e, gD_at (by omega)]
theorem reach_C {V : Nat → Int} (hV : VI V) {b b1 : Nat → Bool} (hb : Lst src0 ((bothV (fun p q => 5 * p + q) V).map zA) (toL b)) (hb1 : Lst src0 ((bothV (fun p q => V 1 * p + q) V).map zA) (toL b1)) {p q : Nat} (hq : (q : Int) < V 1) (hq5 : q < 5) : b (5 * p + q) = b1 ((V 1).toNat * p + q) := by
  have key : b (5 * p + q) = true ↔ b1 ((V 1).toNat * p + q) = true := by
    rw [Lst_toL hb, Lst_toL hb1]
    constructor
    · intro h
      have := Der_sim (f' := src0) (gC (V 1).toNat) (src0_k (by simp [gC])) (zA_map _ _) h
      rw [← both_C hV, gC_at hq5] at this
      exact this
    · intro h
      have := Der_sim (f' := src0) (gD (V 1).toNat) (src0_k (by simp [gD])) (zA_map _ _) h
      rw [← both_D hV, gD_at (by omega)] at this
      exact this
  rcases hx : b (5 * p + q) with _ | _
  · rcases hy : b1 ((V 1).toNat * p + q) with _ | _
    · rfl
    · rw [key.2 hy] at hx; cases hx
  · rw [key.1 hx]
theorem use_C {V : Nat → Int} (hV : VI V) {b b1 : Nat → Bool} (hb : Lst (endL 25 (endsB V)) ((bothV (fun p q => 5 * p + q) V).map zR) (toL b)) (hb1 : Lst (endL (V 0 * V 1) (cEn (V 1) (endsR V 0) (endsR V 1))) ((bothV (fun p q => V 1 * p + q) V).map zR) (toL b1)) {p q : Nat} (hq : (q : Int) < V 1) (hq5 : q < 5) : b (5 * p + q) = b1 ((V 1).toNat * p + q) := by
  have key : b (5 * p + q) = true ↔ b1 ((V 1).toNat * p + q) = true := by
    rw [Lst_toL hb, Lst_toL hb1]
    constructor
    · intro h
      have := Der_sim (f' := endL (V 0 * V 1) (cEn (V 1) (endsR V 0) (endsR V 1))) (gC (V 1).toNat) (fun u y hu => by
        obtain ⟨⟨u1, u2⟩, rfl⟩ := endL_s.1 hu
        obtain ⟨hp, hq⟩ := ends_valid hV (by omega) u2
        have et : u = 5 * (u / 5) + u % 5 := by omega
        refine endL_s.2 ⟨⟨?_, ?_⟩, rfl⟩
        · exact gC_lt hV hp hq
        · rw [et, ← ends_C hV hp hq] at u2
          exact u2) (zR_map _ _) h
      rw [← both_C hV, gC_at hq5] at this
      exact this
    · intro h
      have := Der_sim (f' := endL 25 (endsB V)) (gD (V 1).toNat) (fun u y hu => by
        obtain ⟨⟨u1, u2⟩, rfl⟩ := endL_s.1 hu
        obtain ⟨p', q', rfl, hp, hq, hp5, hq5⟩ := pq_of_Z hV u1
        rw [ends_C hV hp hq] at u2
        rw [gD_at (by omega)]
        exact endL_s.2 ⟨⟨by omega, u2⟩, rfl⟩) (zR_map _ _) h
      rw [← both_D hV, gD_at (by omega)] at this
      exact this
  rcases hx : b (5 * p + q) with _ | _
  · rcases hy : b1 ((V 1).toNat * p + q) with _ | _
    · rfl
    · rw [key.2 hy] at hx; cases hx
  · rw [key.1 hx]
/-! sums -/
theorem sm_add (f : Nat → Int) (m n : Nat) : sm f (m + n) = sm f m + sm (fun k => f (m + k)) n := by
  induction n with
  | zero => simp [sm]
  | succ n ih =>
    rw [show m + (n + 1) = (m + n) + 1 by omega]
    simp only [sm]
    rw [ih]
    omega
theorem sm_mul (f : Nat → Int) (a b : Nat) : sm f (a * b) = sm (fun p => sm (fun q => f (b * p + q)) b) a := by
  induction a with
  | zero => simp [sm]
  | succ a ih =>
    rw [Nat.add_mul, Nat.one_mul, sm_add, ih]
    simp only [sm]
    rw [Nat.mul_comm a b]
theorem sm_cut {f : Nat → Int} {n m : Nat} (h : ∀ k, n ≤ k → k < m → f k = 0) (hn : n ≤ m) : sm f m = sm f n := by
  induction m with
  | zero => rw [show n = 0 by omega]
  | succ m ih =>
    by_cases e : n = m + 1
    · rw [e]
    · simp only [sm]
      rw [ih (fun k h1 h2 => h k h1 (by omega)) (by omega), h m (by omega) (by omega)]
      omega
theorem sm_pq {V : Nat → Int} (hV : VI V) {f f1 : Nat → Int} (h0 : ∀ p q : Nat, p < 5 → q < 5 → ¬ ((p : Int) < V 0 ∧ (q : Int) < V 1) → f (5 * p + q) = 0) (h1 : ∀ p q : Nat, (p : Int) < V 0 → (q : Int) < V 1 → q < 5 → f (5 * p + q) = f1 ((V 1).toNat * p + q)) : sm f 25 = sm f1 (V 0 * V 1).toNat := by
  have v0 := hV.1 0 (by omega) (by omega)
  have v1 := hV.1 1 (by omega) (by omega)
  simp only [Int.reduceToNat, Int.reduceAdd] at v0 v1
  rw [(mulN hV).1, show 25 = 5 * 5 from rfl, sm_mul, sm_mul]
  have z : ∀ n : Nat, sm (fun _ : Nat => (0 : Int)) n = 0 := fun n => by
    induction n with
    | zero => rfl
    | succ n ih => simp only [sm, ih]; rfl
  rw [sm_cut (n := (V 0).toNat) (m := 5) (fun p hp1 hp2 => by
    have : sm (fun q => f (5 * p + q)) 5 = sm (fun _ => 0) 5 := sm_congr (fun q hq => h0 p q hp2 hq (fun c => by omega))
    rw [this, z]) (by omega)]
  refine sm_congr (fun p hp => ?_)
  rw [sm_cut (n := (V 1).toNat) (m := 5) (fun q hq1 hq2 => h0 p q (by omega) hq2 (fun c => by omega)) (by omega)]
  exact sm_congr (fun q hq => h1 p q (by omega) (by omega) (by omega))
/-- the answers about the composed rule -/
theorem composed_eq {V : Nat → Int} (hV : VI V) {b1 c1 : Nat → Bool} {w res : Int} (hb1 : Lst src0 ((bothV (fun p q => V 1 * p + q) V).map zA) (toL b1)) (hc1 : w = 1 → Lst (endL (V 0 * V 1) (cEn (V 1) (endsR V 0) (endsR V 1))) ((bothV (fun p q => V 1 * p + q) V).map zR) (toL c1)) (hm : oComposed V w res) :
    res = cVal (V 0 * V 1) (bothV (fun p q => V 1 * p + q) V) (cEn (V 1) (endsR V 0) (endsR V 1)) b1 c1 w := by
  rcases hm with ⟨h1, rfl⟩ | ⟨h1, b, c, ⟨hb, hc⟩, rfl⟩
  · unfold cVal
    rw [if_neg (by omega), if_neg (by omega), if_neg (by omega), if_neg (by omega), if_neg (by omega)]
  · have hno : ∀ p q : Nat, p < 5 → q < 5 → ¬ ((p : Int) < V 0 ∧ (q : Int) < V 1) → ¬ b (5 * p + q) = true := by
      intro p q hp hq hn hb'
      obtain ⟨p', q', e, hp', hq', -, h5⟩ := Der_valid hV ((Lst_toL hb _).1 hb')
      have : p = p' ∧ q = q' := by omega
      exact hn (by rw [this.1, this.2]; exact ⟨hp', hq'⟩)
    have e5 : ∀ (b : Nat → Bool) (L : List AR) (w' : Int), sm (cntA L w' b) L.length = smL (fun a => if w' = 2 ∨ a.2.2.1 = 4 then bI (b a.1.toNat = true) else 0) L := fun b L w' => by
      rw [← sm_smL]
      refine sm_congr (fun k _ => ?_)
      unfold cntA
      rcases L[k]? with _ | a <;> rfl
    unfold cVal
    by_cases c0 : w = 0
    · subst c0
      rw [if_neg (by omega), if_pos rfl]
      refine sm_pq hV (fun p q hp hq hn => ?_) (fun p q hp hq h5 => ?_)
      · simp only [cntS, if_true]
        exact bI_f (hno p q hp hq hn)
      · simp only [cntS, if_true]
        rw [reach_C hV hb hb1 hq h5]
    · by_cases c1' : w = 1
      · subst c1'
        rw [if_neg (by omega), if_neg (by omega), if_pos rfl]
        refine sm_pq hV (fun p q hp hq hn => ?_) (fun p q hp hq h5 => ?_)
        · simp only [cntS, if_true, Int.reduceEq, if_false]
          exact bI_f (fun z => hno p q hp hq hn z.2)
        · simp only [cntS, if_true, Int.reduceEq, if_false]
          rw [reach_C hV hb hb1 hq h5, use_C hV hc (hc1 rfl) hq h5]
      · by_cases c2 : w = 2
        · subst c2
          rw [if_pos (by omega), if_neg (by omega), if_neg (by omega), if_pos rfl, e5, both_D hV]
          unfold smL
          rw [List.map_map]
          congr 1
          apply List.map_congr_left
          intro x hx
          have ok := okR_both1 hV x hx
          obtain ⟨p, q, e, hp, hq, hp5, hq5⟩ := pq_of_Z hV (u := x.1.toNat) (by omega)
          simp only [Function.comp, mpA_1, true_or, if_true]
          rw [e, gD_at (by omega), reach_C hV hb hb1 hq hq5]
        · by_cases c3 : w = 3
          · subst c3
            rw [if_pos (by omega), if_neg (by omega), if_neg (by omega), if_neg (by omega), if_pos rfl, e5, both_D hV]
            unfold smL
            rw [List.map_map]
            congr 1
            apply List.map_congr_left
            intro x hx
            have ok := okR_both1 hV x hx
            obtain ⟨p, q, e, hp, hq, hp5, hq5⟩ := pq_of_Z hV (u := x.1.toNat) (by omega)
            simp only [Function.comp, mpA_1, Int.reduceEq, false_or]
            rw [e, gD_at (by omega), reach_C hV hb hb1 hq hq5]
            show (if x.2.2.1 = 4 then _ else _) = _
            by_cases c4 : x.2.2.1 = 4
            · rw [if_pos c4]
              simp only [c4, and_true]
            · rw [if_neg c4, bI_f (fun z => c4 z.2)]
          · have c4 : w = 4 := by omega
            subst c4
            rw [if_neg (by omega), if_neg (by omega), if_neg (by omega), if_neg (by omega), if_neg (by omega), if_pos rfl]
            refine sm_pq hV (fun p q hp hq hn => ?_) (fun p q hp hq h5 => ?_)
            · simp only [cntS, Int.reduceEq, if_false]
              split
              · rfl
              · exact bI_f (hno p q hp hq hn)
            · have v0 := hV.1 0 (by omega) (by omega)
              simp only [Int.reduceToNat, Int.reduceAdd] at v0
              simp only [cntS, Int.reduceEq, if_false]
              rw [ends_C hV hp hq, reach_C hV hb hb1 hq h5]
              have rg := endB_range hV (p := ((5 * p + q) / 5 : Nat)) (q := ((5 * p + q) % 5 : Nat)) (by omega) (by omega)
              have e6 : endsB V (5 * p + q) = endB V ((5 * p + q) / 5 : Nat) ((5 * p + q) % 5 : Nat) := rfl
              by_cases c7 : endsB V (5 * p + q) < 0
              · rw [if_pos c7, bI_f (fun z => z.2 (by omega))]
              · rw [if_neg c7]
                have : ¬ endsB V (5 * p + q) = -1 := by omega
                simp only [this, not_false_eq_true, and_true]
