/-! PURE: passes with a flag that says whether something changed -/
set_option maxRecDepth 100000
def chF (G : List GA) (f0 f : Lb) (T : List GA) (c : Bool) : Prop := f = pass T f0 ∧ (c = false → still T f0 ∧ f = f0) ∧ (c = true → ¬ still G f0)
theorem chF.nil {G : List GA} {f0 : Lb} : chF G f0 f0 [] false := ⟨rfl, fun _ => ⟨fun a ha => (nomatch ha), rfl⟩, fun h => (nomatch h)⟩
theorem rlx_not {f : Lb} {g : GA} (h : less f g = false) : rlx f g = f := by unfold rlx; rw [h]; rfl
theorem chF.step {G : List GA} {f0 f : Lb} {T : List GA} {c : Bool} (H : chF G f0 f T c) {g : GA} (hg : g ∈ G) : chF G f0 (rlx f g) (T ++ [g]) (c || less f g) := by
  obtain ⟨h1, h2, h3⟩ := H
  refine ⟨by rw [h1]; simp [pass, List.foldl_append], fun hc => ?_, fun hc => ?_⟩
  · obtain ⟨c1, c2⟩ := Bool.or_eq_false_iff.1 hc
    obtain ⟨s, e⟩ := h2 c1
    rw [rlx_not c2]
    refine ⟨fun a ha => ?_, e⟩
    rcases List.mem_append.1 ha with q | q
    · exact s a q
    · rw [List.mem_singleton.1 q, ← e]; exact c2
  · cases hc1 : c with
    | true => exact h3 hc1
    | false =>
      rw [hc1, Bool.false_or] at hc
      obtain ⟨s, e⟩ := h2 hc1
      intro hs
      rw [e, hs g hg] at hc
      cases hc
theorem chF.stop {G : List GA} {f0 f : Lb} (H : chF G f0 f G false) : still G f0 ∧ f = f0 := H.2.1 rfl
theorem chF.go {G : List GA} {s f : Lb} {j n : Nat} (H : chF G (passes G j s) f G true) (h0 : ∀ v x, s v = some x → v < n) (hL : ∀ a ∈ G, a.2.1 < n) : j + 1 < n ∧ f = passes G (j + 1) s := by
  have : ¬ n ≤ j + 1 := fun hk => H.2.2 rfl (passes_still h0 hL hk)
  exact ⟨by omega, H.1⟩
theorem take_flat {α β : Type} {L : List α} {k : Nat} {x : α} (h : L[k]? = some x) (z : α → List β) : (L.take (k + 1)).flatMap z = (L.take k).flatMap z ++ z x := by
  rw [List.take_add_one, h]
  simp
theorem take_map {α β : Type} {L : List α} {k : Nat} {x : α} (h : L[k]? = some x) (z : α → β) : (L.take (k + 1)).map z = (L.take k).map z ++ [z x] := by
  rw [List.take_add_one, h]
  simp
/-- an arc of those that count -/
def zF (p : Prop) [Decidable p] (x : AR) : List GA := if p ∧ ¬ x.2.2.1 = 4 then [] else [zA x]
theorem zF_t {p : Prop} [Decidable p] {x : AR} (h : p ∧ ¬ x.2.2.1 = 4) : zF p x = [] := if_pos h
theorem zF_f {p : Prop} [Decidable p] {x : AR} (h : ¬ (p ∧ ¬ x.2.2.1 = 4)) : zF p x = [zA x] := if_neg h
theorem zF_lt {p : Prop} [Decidable p] {L : List AR} {n : Int} (hk : okR n L) : ∀ g ∈ L.flatMap (zF p), g.2.1 < n.toNat := by
  intro g hg
  obtain ⟨x, hx, hgx⟩ := List.mem_flatMap.1 hg
  have := hk x hx
  unfold zF at hgx
  split at hgx
  · cases hgx
  · rw [List.mem_singleton.1 hgx]
    simp only [zA]
    omega
theorem zF_mem {p : Prop} [Decidable p] {L : List AR} {x : AR} (hx : x ∈ L) (h : ¬ (p ∧ ¬ x.2.2.1 = 4)) : zA x ∈ L.flatMap (zF p) := List.mem_flatMap.2 ⟨x, hx, by rw [zF_f h]; exact List.mem_singleton.2 rfl⟩
theorem zF_all (L : List AR) : L.flatMap (zF False) = L.map zA := by
  induction L with
  | nil => rfl
  | cons a L ih => simp only [List.flatMap_cons, List.map_cons, ih, zF, false_and, if_false]; rfl
theorem memL {α : Type} {L : List α} {k : Nat} {x : α} (h : L[k]? = some x) : x ∈ L := List.mem_of_getElem? h
theorem ltL {α : Type} {L : List α} {k : Nat} {x : α} (h : L[k]? = some x) : k < L.length := by
  rcases Nat.lt_or_ge k L.length with q | q
  · exact q
  · rw [List.getElem?_eq_none q] at h; cases h
