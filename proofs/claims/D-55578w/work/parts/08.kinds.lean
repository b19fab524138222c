/-! THE KINDS of the abstract machine's objects: classes (by their names, fields, how many fields), array kinds -/
def RSnd : String := "ChantRules$Sound"
def RSnd1 : String := "ChantRules$Sound$1"
def TSnd : u_T := fun k => match k with
  | _ => ("java/lang/Enum", "ordinal", "I", true)
def ckl : List vw_C := [(RX0, TX0, 10), (RX1, TX1, 4), (RX3, TX3, 3), (RX10, TX10, 3), (RX11, TX11, 3), (RX12, TX12, 2), (RX13, TX13, 7), (RX14, TX14, 7), (RX5, TX5, 37), (RX6, TX6, 8),
  (RX7, TX7, 4), (RX8, TX8, 5), (RX9, TX9, 2), (RJ13, TJ13, 5), (RJ19, TJ19, 4), (RJ2, TJ2, 3), (RJ21, TJ21, 3), (RJ3, TJ3, 3), (RJ5, TJ5, 4), (RJ6, TJ6, 4), (RJ9, TJ9, 4), (RSnd, TSnd, 1), (RSnd1, TSnd, 1)]
def atl : List FieldType := [.int, .boolean, .byte, .object "java/lang/Object", .object "ChantRules$Test", .object "ChantRules$Rule", .object "ChantRules$Way", .object "ChantRules$Sound"]
/-- which kind may be cast to which class -/
def ctab : List (Nat × String) := [(10, "ChantRules$Arc"), (11, "ChantRules$Arc"), (20, "java/util/Iterator"), (9, "ChantRules$Refused"), (6, "ChantRules$Wrong"), (19, "java/lang/CharSequence"), (18, "java/lang/CharSequence"), (22, "ChantRules$Sound"),
  (10, "java/lang/Object"), (11, "java/lang/Object"), (1, "java/lang/Object"), (1, "ChantRules$Choir"), (2, "ChantRules$Rule"), (7, "ChantRules$Command"), (10, "ChantRules$Breathed"), (11, "ChantRules$Heard"), (12, "ChantRules$Way"), (19, "java/lang/String"), (99, "ChantRules$Test"),
  (102, "[B"), (103, "[Ljava/lang/Object;"), (107, "[LChantRules$Sound;")]
/-- .. and which may not -/
def ntab : List (Nat × String) := [(10, "ChantRules$Heard"), (11, "ChantRules$Breathed"), (9, "ChantRules$Wrong")]
/-- what may be stored into which array -/
def stab : List (Nat × Nat) := [(10, 103), (11, 103), (1, 103), (99, 104), (2, 105), (12, 106)]
theorem stab_ok : ∀ q ∈ stab, ∃ C, atl[q.2 - 100]? = some (.object C) ∧ 100 ≤ q.2 ∧ (q.1, C) ∈ ctab := by
  intro q hq
  simp only [stab, List.mem_cons, List.not_mem_nil, or_false] at hq
  rcases hq with rfl | rfl | rfl | rfl | rfl | rfl
  · exact ⟨"java/lang/Object", rfl, by decide, by simp [ctab]⟩
  · exact ⟨"java/lang/Object", rfl, by decide, by simp [ctab]⟩
  · exact ⟨"java/lang/Object", rfl, by decide, by simp [ctab]⟩
  · exact ⟨"ChantRules$Test", rfl, by decide, by simp [ctab]⟩
  · exact ⟨"ChantRules$Rule", rfl, by decide, by simp [ctab]⟩
  · exact ⟨"ChantRules$Way", rfl, by decide, by simp [ctab]⟩
