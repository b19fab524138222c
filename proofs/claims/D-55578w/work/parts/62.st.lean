/-! THE STATE of both sides: the row, the rows before, the saved row, reasons, text, line -/
set_option maxRecDepth 100000
abbrev ST : Type := (Nat → Int) × List (Nat → Int) × Option (Nat → Int) × (Int × Int × Int × Int) × List Int × List Int
def SI (S : ST) : Prop := VI S.1 ∧ (∀ W ∈ S.2.1, VI W) ∧ S.2.1.length ≤ 8 ∧ (∀ W, S.2.2.1 = some W → VI W) ∧ (0 ≤ S.2.2.2.1.1 ∧ S.2.2.2.1.1 ≤ 5) ∧ (0 ≤ S.2.2.2.1.2.1 ∧ S.2.2.2.1.2.1 ≤ 100) ∧ (0 ≤ S.2.2.2.1.2.2.1 ∧ S.2.2.2.1.2.2.1 ≤ 5) ∧ (0 ≤ S.2.2.2.1.2.2.2 ∧ S.2.2.2.1.2.2.2 ≤ 100) ∧ (S.2.2.2.1.2.2.1 ≠ 0 → S.2.2.2.1.1 ≠ 0) ∧
  (S.2.2.2.2.1.length ≤ 60 ∧ ∀ c ∈ S.2.2.2.2.1, 32 ≤ c ∧ c ≤ 126) ∧ (S.2.2.2.2.2.length ≤ 250 ∧ ∀ c ∈ S.2.2.2.2.2, 32 ≤ c ∧ c ≤ 126)
def MS (s : Nat → Int) (A : Nat → Nat → Int) (S : ST) : Prop :=
  A 0 = S.1 ∧ (s 1 = S.2.1.length ∧ ∀ (i : Nat) W, S.2.1[i]? = some W → ∀ k, k < 137 → A 3 (137 * i + k) = W k) ∧ ((S.2.2.1 = none ∧ s 6 = 0) ∨ ∃ W, S.2.2.1 = some W ∧ s 6 = 1 ∧ ∀ k, k < 137 → A 2 k = W k) ∧
  (s 2 = S.2.2.2.1.1 ∧ (S.2.2.2.1.1 ≠ 0 → s 3 = S.2.2.2.1.2.1) ∧ s 4 = S.2.2.2.1.2.2.1 ∧ (S.2.2.2.1.2.2.1 ≠ 0 → s 5 = S.2.2.2.1.2.2.2)) ∧
  (s 26 = S.2.2.2.2.1.length ∧ ∀ (i : Nat) c, S.2.2.2.2.1[i]? = some c → A 12 i = c) ∧ (s 30 = S.2.2.2.2.2.length ∧ ∀ (i : Nat) c, S.2.2.2.2.2[i]? = some c → A 17 i = c)
theorem MS.frame {s s' : Nat → Int} {A A' : Nat → Nat → Int} {S : ST} (h : MS s A S) (hs : ∀ j ∈ [1, 2, 3, 4, 5, 6, 26, 30], s' j = s j) (hA : ∀ j ∈ [0, 2, 3, 12, 17], A' j = A j) : MS s' A' S := by
  unfold MS
  rw [hs 1 (by simp), hs 2 (by simp), hs 3 (by simp), hs 4 (by simp), hs 5 (by simp), hs 6 (by simp), hs 26 (by simp), hs 30 (by simp), hA 0 (by simp), hA 2 (by simp), hA 3 (by simp), hA 12 (by simp), hA 17 (by simp)]
  exact h
/-- the word in the text -/
def wordS (l : List Int) : Nat → Int := fun k => l.getD k 0
theorem MS.word {s : Nat → Int} {A : Nat → Nat → Int} {S : ST} (h : MS s A S) {k : Nat} (hk : k < S.2.2.2.2.1.length) : A 12 k = wordS S.2.2.2.2.1 k := by
  have := h.2.2.2.2.1.2 k _ (List.getElem?_eq_getElem hk)
  rw [this]
  simp [wordS, List.getD_eq_getElem?_getD, hk]
theorem wordS_mem {l : List Int} {k : Nat} (hk : k < l.length) : wordS l k ∈ l := by
  unfold wordS
  rw [List.getD_eq_getElem?_getD, List.getElem?_eq_getElem hk]
  exact List.getElem_mem hk
theorem SI.text {S : ST} (h : SI S) {k : Nat} (hk : k < S.2.2.2.2.1.length) : 32 ≤ wordS S.2.2.2.2.1 k ∧ wordS S.2.2.2.2.1 k ≤ 126 := h.2.2.2.2.2.2.2.2.2.1.2 _ (wordS_mem hk)
theorem wordP_congr {T : Int} {w w' : Nat → Int} (h : ∀ k : Nat, (k : Int) < T → w k = w' k) : wordP T w ↔ wordP T w' := by
  unfold wordP
  exact ⟨fun q => ⟨q.1, fun k hk => by rw [← h k hk]; exact q.2 k hk⟩, fun q => ⟨q.1, fun k hk => by rw [h k hk]; exact q.2 k hk⟩⟩
theorem Rd.lt {L : List AR} {n T : Int} {word : Nat → Int} (hn : 1 ≤ n) (hk : okR n L) (hT : 0 ≤ T) {t pos : Nat} {x : V3} (h : Rd L T word t pos x) : (t : Int) < n ∧ (pos : Int) ≤ T :=
  h (fun t pos _ => (t : Int) < n ∧ (pos : Int) ≤ T) ⟨by omega, by omega⟩ (fun a ha pos y hy => by
    have := hk a ha
    exact ⟨fun _ => ⟨by omega, hy.2⟩, fun _ hp _ => ⟨by omega, by omega⟩⟩)
theorem Rd.congr {L : List AR} {T : Int} {w w' : Nat → Int} (hw : ∀ k : Nat, (k : Int) < T → w k = w' k) {t pos : Nat} {x : V3} (h : Rd L T w t pos x) : Rd L T w' t pos x := by
  intro R h0 hR
  exact h R h0 (fun a ha pos y hy => ⟨(hR a ha pos y hy).1, fun h4 hp hc => (hR a ha pos y hy).2 h4 hp (by rw [← hw pos hp]; exact hc)⟩)
theorem Best.congr {L : List AR} {n T : Int} {w w' B B' : Nat → Int} {r : Option V3} (hn : 1 ≤ n) (hk : okR n L) (hT : 0 ≤ T) (hw : ∀ k : Nat, (k : Int) < T → w k = w' k) (hB : ∀ t : Nat, (t : Int) < n → B t = B' t) (h : Best L B T w r) : Best L B' T w' r := by
  refine ⟨fun x hx => ?_, fun t y hR h0 => ?_⟩
  · obtain ⟨t, y, h1, h2, h3⟩ := h.1 x hx
    have := hB t (h1.lt hn hk hT).1
    rw [this] at h2 h3
    exact ⟨t, y, h1.congr hw, h2, h3⟩
  · have e := hB t (hR.lt hn hk hT).1
    have := h.2 t y (hR.congr (fun k hk => (hw k hk).symm)) (by rw [e]; exact h0)
    rw [e] at this
    exact this
/-- what is answered about a reading -/
def endsR (V : Nat → Int) (r : Int) : Nat → Int := fun t => V (4 + 5 * r + t).toNat
def endsB (V : Nat → Int) : Nat → Int := fun t => endB V ((t / 5 : Nat) : Int) ((t % 5 : Nat) : Int)
def wOf : Option V3 → Int
  | none => -15
  | some x => x.1
def BestR (S : ST) (r : Int) (b : Option V3) : Prop := Best (arcsV S.1 r) (endsR S.1 r) S.2.2.2.2.1.length (wordS S.2.2.2.2.1) b
def BestB (S : ST) (b : Option V3) : Prop := Best (bothV (fun p q => 5 * p + q) S.1) (endsB S.1) S.2.2.2.2.1.length (wordS S.2.2.2.2.1) b
def isW (S : ST) : Prop := wordP S.2.2.2.2.1.length (wordS S.2.2.2.2.1)
/-- the state with a song as its line -/
def sung (S : ST) (b : Option V3) (res : Int) (S' : ST) : Prop := match b with
  | none => res = -15 ∧ S' = S
  | some x => res = x.2.1 ∧ ∃ l, SongOf x l ∧ S' = (S.1, S.2.1, S.2.2.1, S.2.2.2.1, S.2.2.2.2.1, l)
