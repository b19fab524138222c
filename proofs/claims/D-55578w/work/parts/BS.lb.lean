/-! THE LAW (11): what stays true of the state -/
set_option maxRecDepth 100000
theorem SI.line {S : ST} (hI : SI S) {l : List Int} (hl : l.length ≤ 250) (hc : ∀ c ∈ l, 32 ≤ c ∧ c ≤ 126) : SI (S.1, S.2.1, S.2.2.1, S.2.2.2.1, S.2.2.2.2.1, l) := by
  obtain ⟨i1, i2, i3, i4, i5, i6, i7, i8, i9, i10, -⟩ := hI
  exact ⟨i1, i2, i3, i4, i5, i6, i7, i8, i9, i10, hl, hc⟩
theorem SI.txt {S : ST} (hI : SI S) {l : List Int} (hl : l.length ≤ 60) (hc : ∀ c ∈ l, 32 ≤ c ∧ c ≤ 126) : SI (S.1, S.2.1, S.2.2.1, S.2.2.2.1, l, S.2.2.2.2.2) := by
  obtain ⟨i1, i2, i3, i4, i5, i6, i7, i8, i9, -, i11⟩ := hI
  exact ⟨i1, i2, i3, i4, i5, i6, i7, i8, i9, ⟨hl, hc⟩, i11⟩
theorem rsS.txt {S : ST} {k : Nat} (hr : rsS S k) {l : List Int} (hl : l.length ≤ S.2.2.2.2.1.length + 1) : rsS (S.1, S.2.1, S.2.2.1, S.2.2.2.1, l, S.2.2.2.2.2) (k + 1) := by
  obtain ⟨r1, r2, r3⟩ := hr
  refine ⟨?_, fun W hW => ?_, fun W hW => ?_⟩
  · simp only; omega
  · have := r2 W hW; simp only; omega
  · have := r3 W hW; simp only; omega
theorem sung_I {S S' : ST} {b : Option V3} {res : Int} {k : Nat} (hI : SI S) (hr : rsS S k) (h : sung S b res S') (hb : res ≤ 226) : SI S' ∧ rsS S' (k + 1) := by
  cases b with
  | none => obtain ⟨-, e⟩ := h; rw [e]; exact ⟨hI, hr.up⟩
  | some x =>
    obtain ⟨e, l, hs, e2⟩ := h
    rw [e2]
    exact ⟨hI.line (by have := hs.1; omega) (fun c hc => by have := hs.2.1 c hc; omega), hr.up⟩
theorem sing_I {S S' : ST} {r res : Int} {k : Nat} (hI : SI S) (hr : rsS S k) (h : oSing S r res S') (hb : res ≤ 226) : SI S' ∧ rsS S' (k + 1) := by
  rcases h with ⟨-, -, e⟩ | ⟨-, -, -, e⟩ | ⟨-, -, b, -, hs⟩
  · rw [e]; exact ⟨hI, hr.up⟩
  · rw [e]; exact ⟨hI, hr.up⟩
  · exact sung_I hI hr hs hb
theorem singBoth_I {S S' : ST} {res : Int} {k : Nat} (hI : SI S) (hr : rsS S k) (h : oSingBoth S res S') (hb : res ≤ 226) : SI S' ∧ rsS S' (k + 1) := by
  rcases h with ⟨-, -, e⟩ | ⟨-, b, -, hs⟩
  · rw [e]; exact ⟨hI, hr.up⟩
  · exact sung_I hI hr hs hb
theorem append_I {S : ST} {c : Int} {k : Nat} (hI : SI S) (hr : rsS S k) : SI (oAppend S c).2 ∧ rsS (oAppend S c).2 (k + 1) := by
  unfold oAppend
  by_cases h1 : 32 ≤ c ∧ c ≤ 126
  · rw [if_neg (fun q => q h1)]
    by_cases h2 : S.2.2.2.2.1.length = 60
    · rw [if_pos h2]; exact ⟨hI, hr.up⟩
    · rw [if_neg h2]
      have t := hI.2.2.2.2.2.2.2.2.2.1
      have e : (S.2.2.2.2.1 ++ [c]).length = S.2.2.2.2.1.length + 1 := by simp
      refine ⟨hI.txt (by have := t.1; omega) (fun d hd => ?_), hr.txt (by omega)⟩
      rcases List.mem_append.1 hd with q | q
      · exact t.2 d q
      · rw [List.mem_singleton.1 q]; exact h1
  · rw [if_pos h1]; exact ⟨hI, hr.up⟩
theorem noText_I {S : ST} {k : Nat} (hI : SI S) (hr : rsS S k) : SI (noText S) ∧ rsS (noText S) (k + 1) := ⟨hI.txt (by simp) (fun c hc => (List.not_mem_nil hc).elim), hr.txt (by simp)⟩
theorem clear_I {S : ST} {k : Nat} (hI : SI S) (hr : rsS S k) : SI (oClear S).2 ∧ rsS (oClear S).2 (k + 1) := noText_I hI hr
theorem undo_I {S : ST} {k : Nat} (hI : SI S) (hr : rsS S k) : SI (oUndo S).2 ∧ rsS (oUndo S).2 (k + 1) := by
  unfold oUndo
  cases h : S.2.1.getLast? with
  | none => exact ⟨hI, hr.up⟩
  | some W =>
    have hW := List.mem_of_getLast? h
    obtain ⟨i1, i2, i3, i4⟩ := hI
    obtain ⟨r1, r2, r3⟩ := hr
    have hd : ∀ W' ∈ S.2.1.dropLast, W' ∈ S.2.1 := fun W' h' => (List.dropLast_sublist _).subset h'
    dsimp only
    refine ⟨⟨i2 W hW, fun W' h' => i2 W' (hd W' h'), ?_, i4⟩, ?_, fun W' h' => ?_, fun W' h' => ?_⟩
    · simp only [List.length_dropLast]; omega
    · have := r2 W hW; simp only; omega
    · have := r2 W' (hd W' h'); simp only; omega
    · have := r3 W' h'; simp only; omega
theorem save_I {S : ST} {k : Nat} (hI : SI S) (hr : rsS S k) : SI (oSave S).2 ∧ rsS (oSave S).2 (k + 1) := by
  obtain ⟨i1, i2, i3, i4, i5⟩ := hI
  obtain ⟨r1, r2, r3⟩ := hr
  unfold oSave
  refine ⟨⟨i1, i2, i3, fun W hW => ?_, i5⟩, ?_, fun W' h' => ?_, fun W' h' => ?_⟩
  · cases hW; exact i1
  · simp only; omega
  · have := r2 W' h'; simp only; omega
  · cases h'; simp only; omega
theorem restore_I {S : ST} {k : Nat} (hI : SI S) (hr : rsS S k) : SI (oRestore S).2 ∧ rsS (oRestore S).2 (k + 1) := by
  unfold oRestore
  cases h : S.2.2.1 with
  | none => exact ⟨hI, hr.up⟩
  | some W =>
    obtain ⟨i1, i2, i3, i4, i5⟩ := hI
    obtain ⟨r1, r2, r3⟩ := hr
    have hv := i4 W h
    have hb := r3 W h
    dsimp only
    refine ⟨⟨hv, fun W' h' => (List.not_mem_nil h').elim, by simp, fun W' h' => ?_, i5⟩, ?_, fun W' h' => (List.not_mem_nil h').elim, fun W' h' => ?_⟩
    · cases h'; exact hv
    · simp only; omega
    · cases h'; simp only; omega
theorem pushH_mem {l : List (Nat → Int)} {V W : Nat → Int} (h : W ∈ pushH l V) : W = V ∨ W ∈ l := by
  unfold pushH at h
  split at h
  · rcases List.mem_append.1 h with q | q
    · exact Or.inr (List.mem_of_mem_tail q)
    · exact Or.inl (List.mem_singleton.1 q)
  · rcases List.mem_append.1 h with q | q
    · exact Or.inr q
    · exact Or.inl (List.mem_singleton.1 q)
theorem pushH_len {l : List (Nat → Int)} {V : Nat → Int} (h : l.length ≤ 8) : (pushH l V).length ≤ 8 := by
  unfold pushH
  split
  · simp; omega
  · simp; omega
theorem nxt_out' {w : Nat → Int} {T : Nat} : ∀ p, T ≤ p → nxt w T p = -1 := fun p hp => by unfold nxt; rw [if_neg (by omega)]
theorem run_I {S : ST} {out : Nat ⊕ List Cmd} {k : Nat} (hk : k ≤ 24) (hI : SI S) (hr : rsS S k) (hO : POut (nxt (wordS S.2.2.2.2.1) S.2.2.2.2.1.length) S.2.2.2.2.1.length out) : SI (oRun S out).2 ∧ rsS (oRun S out).2 (k + 1) := by
  cases out with
  | inl z => exact noText_I hI hr
  | inr L =>
    have hl := POut_len nxt_out' hO
    obtain ⟨r1, r2, r3⟩ := id hr
    have eo := exec_ok L S.1 0 hI.1 (by omega)
    obtain ⟨i1, i2, i3, i4, i5, i6, i7, i8, i9, i10, i11⟩ := id hI
    simp only [oRun]
    cases he : exec S.1 L 0 with
    | inl V =>
      rw [he] at eo
      obtain ⟨v1, v2⟩ := eo
      refine ⟨⟨v1, fun W hW => ?_, pushH_len i3, i4, i5, i6, i7, i8, i9, ⟨by simp, fun c hc => (List.not_mem_nil hc).elim⟩, i11⟩, ?_, fun W hW => ?_, fun W hW => ?_⟩
      · rcases pushH_mem hW with e | e
        · rw [e]; exact i1
        · exact i2 W e
      · simp only [List.length_nil]; omega
      · simp only [List.length_nil]
        rcases pushH_mem hW with e | e
        · rw [e]; omega
        · have := r2 W e; omega
      · have := r3 W hW; simp only [List.length_nil]; omega
    | inr q =>
      obtain ⟨j, o⟩ := q
      rw [he] at eo
      obtain ⟨e1, e2, e3, e4⟩ := eo
      have t := i10.1
      refine ⟨⟨i1, i2, i3, i4, by simp only; omega, by simp only; omega, ?_, ?_, fun _ => by simp only; omega, ⟨by simp, fun c hc => (List.not_mem_nil hc).elim⟩, i11⟩, ?_, fun W hW => ?_, fun W hW => ?_⟩
      · simp only
        split
        · next c => have := e4 c; omega
        · omega
      · simp only
        split
        · next c => have := e4 c; omega
        · omega
      · simp only [List.length_nil]; omega
      · have := r2 W hW; simp only [List.length_nil]; omega
      · have := r3 W hW; simp only [List.length_nil]; omega
theorem ltr_ch {t : Int} (h : 0 ≤ t ∧ t ≤ 4) : 32 ≤ ltr t ∧ ltr t ≤ 126 := by
  unfold ltr; split <;> omega
theorem tell_I {S : ST} {r a : Int} {k : Nat} (hI : SI S) (hr : rsS S k) : SI (oTell S r a).2 ∧ rsS (oTell S r a).2 (k + 1) := by
  unfold oTell
  by_cases h1 : (0 ≤ r ∧ r ≤ 1) ∧ 0 ≤ a ∧ a ≤ S.1 (2 + r).toNat - 1
  · rw [if_neg (fun q => q h1)]
    refine ⟨hI.line (by simp [arcLine]) (fun c hc => ?_), hr.up⟩
    obtain ⟨v1, v2, v3, v4, v5⟩ := hI.1.2.2.1 r a h1.1.1 h1.1.2 h1.2.1 (by omega)
    have vc := (hI.1.1 r h1.1.1 h1.1.2).2.1
    have l3 := ltr_ch v3
    have l4 := ltr_ch v4
    simp only [arcLine, arcI, List.mem_cons, List.not_mem_nil, or_false] at hc
    rcases hc with e | e | e | e | e | e | e | e | e <;> omega
  · rw [if_pos h1]; exact ⟨hI, hr.up⟩
theorem stPart_ch {V : Nat → Int} (hV : VI V) {r : Int} (hr : 0 ≤ r ∧ r ≤ 1) {b c : Nat → Bool} {t : Nat} (ht : t < 5) : ∀ x ∈ stPart V r b c t, 32 ≤ x ∧ x ≤ 126 := by
  intro x hx
  have v := hV.2.1 r t hr.1 hr.2 (by omega) (by omega)
  unfold stPart at hx
  rcases List.mem_append.1 hx with hx | hx
  · rcases List.mem_append.1 hx with hx | hx
    · rcases List.mem_append.1 hx with hx | hx
      · split at hx
        · cases hx
        · have := List.mem_singleton.1 hx; omega
      · have := List.mem_singleton.1 hx; omega
    · split at hx
      · have := List.mem_singleton.1 hx; omega
      · cases hx
  · split at hx
    · cases hx
    · simp only [List.mem_cons, List.not_mem_nil, or_false] at hx
      rcases hx with e | e <;> omega
theorem stLine_ch {V : Nat → Int} (hV : VI V) {r : Int} (hr : 0 ≤ r ∧ r ≤ 1) {b c : Nat → Bool} : ∀ n : Nat, n ≤ 5 → ∀ x ∈ stLine V r b c n, 32 ≤ x ∧ x ≤ 126
  | 0, _ => fun x hx => (List.not_mem_nil hx).elim
  | n + 1, hn => fun x hx => by
    simp only [stLine] at hx
    rcases List.mem_append.1 hx with q | q
    · exact stLine_ch hV hr n (by omega) x q
    · exact stPart_ch hV hr (by omega) x q
theorem tellStates_I {S S' : ST} {r res : Int} {k : Nat} (hI : SI S) (hr : rsS S k) (h : oTellStates S r res S') : SI S' ∧ rsS S' (k + 1) := by
  rcases h with ⟨-, -, e⟩ | ⟨h1, b, c, -, -, e⟩
  · rw [e]; exact ⟨hI, hr.up⟩
  · rw [e]
    have v := hI.1.1 r h1.1 h1.2
    have hl := stLine_len S.1 r b c (S.1 r.toNat).toNat
    exact ⟨hI.line (by omega) (stLine_ch hI.1 h1 _ (by omega)), hr.up⟩
