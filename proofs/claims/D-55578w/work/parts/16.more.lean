/-! SWITCHES, and the instructions that a run never comes to -/
set_option maxRecDepth 100000
/-- no run comes here -/
def o_no : Ct := fun _ _ _ => False
def swGo (v : Int32) : List (Int32 × Ct) → Ct → Ct
  | [], D => D
  | (k, T) :: L, D => fun ls st h => if v = k then T ls st h else swGo v L D ls st h
def o_sw (L : List (Int32 × Ct)) (D : Ct) : Ct := fun ls st h => match st with | .int v :: r => swGo v L D ls r h | _ => False
theorem swGo_out {v : Int32} {D : Ct} {ls r : List Value} {h : HS} : ∀ {L : List (Int32 × Ct)}, (∀ q ∈ L, v ≠ q.1) → swGo v L D ls r h → D ls r h
  | [], _, hk => hk
  | (k, T) :: L, hn, hk => by
    have h1 : ¬ v = k := hn (k, T) List.mem_cons_self
    simp only [swGo, if_neg h1] at hk
    exact swGo_out (fun q hq => hn q (List.mem_cons_of_mem _ hq)) hk
theorem swGo_in {v : Int32} {D : Ct} {ls r : List Value} {h : HS} : ∀ {L : List (Int32 × Ct)} {j : Nat} {q : Int32 × Ct}, L[j]? = some q → q.1 = v → (∀ (i : Nat) (q' : Int32 × Ct), i < j → L[i]? = some q' → q'.1 ≠ v) → swGo v L D ls r h → q.2 ls r h
  | [], j, q, hj, _, _, _ => by simp at hj
  | (k, T) :: L, 0, q, hj, hq, _, hk => by
    simp at hj
    subst hj
    have h1 : v = k := hq.symm
    simp only [swGo, if_pos h1] at hk
    exact hk
  | (k, T) :: L, j + 1, q, hj, hq, hn, hk => by
    have h1 : ¬ v = k := fun e => hn 0 (k, T) (by omega) rfl e.symm
    simp only [swGo, if_neg h1] at hk
    exact swGo_in (by simpa using hj) hq (fun i q' hi hl => hn (i + 1) q' (by omega) (by simpa using hl)) hk
section SW
variable {x : CX} {cc : ByteArray} {pc : Nat} {K T D : Ct}
theorem s_no : Snd x pc o_no := fun _ _ _ h => h.elim
theorem s_tsw {dflt lo hi : Int} {offs : Array Int} {len : Nat} {L : List (Int32 × Ct)} {tD : Nat} (G : xB x cc) (d : decode cc pc = .ok (.tableswitch dflt lo hi offs, len)) (hD : (pc : Int) + dflt = (tD : Int)) (kD : Snd x tD D) (hlen : hi - lo + 1 = L.length)
    (hL : ∀ (j : Nat) (q : Int32 × Ct), L[j]? = some q → q.1.toInt = lo + j ∧ ∃ (off : Int) (t : Nat), offs[j]? = some off ∧ (pc : Int) + off = (t : Int) ∧ Snd x t q.2) : Snd x pc (o_sw L D) := by
  intro ls st h hk H locs lsC hR hLo hl
  unfold o_sw at hk
  split at hk
  · next v r =>
    by_cases hout : v.toInt < lo ∨ hi < v.toInt
    · refine lv_tableOut G.1 G.2 d hout hD (kD _ _ _ (swGo_out (fun q hq e => ?_) hk) H locs lsC hR hLo hl)
      obtain ⟨j, hj⟩ := List.getElem?_of_mem hq
      have h1 := (hL j q hj).1
      have h2 := (List.getElem?_eq_some_iff.mp hj).1
      rw [← e] at h1
      omega
    · have h1 : ¬ v.toInt < lo := fun q => hout (Or.inl q)
      have h2 : ¬ hi < v.toInt := fun q => hout (Or.inr q)
      have hjl : (v.toInt - lo).toNat < L.length := by omega
      have hj : L[(v.toInt - lo).toNat]? = some L[(v.toInt - lo).toNat] := List.getElem?_eq_getElem hjl
      obtain ⟨e1, off, t, e2, e3, e4⟩ := hL _ _ hj
      have hv : (L[(v.toInt - lo).toNat]).1 = v := Int32.toInt_inj.mp (by omega)
      refine lv_tableIn G.1 G.2 d h1 h2 e2 e3 (e4 _ _ _ (swGo_in hj hv (fun i q' hi9 hq' e => ?_) hk) H locs lsC hR hLo hl)
      have := (hL i q' hq').1
      rw [e] at this
      omega
  · exact hk.elim
theorem look_of {dflt : Int} {ls r : List Value} {h : HS} {v : Int32} {tD : Nat} (hD : (pc : Int) + dflt = (tD : Int)) (kD : Snd x tD D) : ∀ (L : List (Int32 × Ct)) (ps : List (Int × Int)), L.length = ps.length →
    (∀ (j : Nat) (q : Int32 × Ct) (w : Int × Int), L[j]? = some q → ps[j]? = some w → q.1.toInt = w.1 ∧ ∃ t : Nat, (pc : Int) + w.2 = (t : Int) ∧ Snd x t q.2) → swGo v L D ls r h → ∃ (t : Nat) (K9 : Ct), (pc : Int) + Op.lookupswitch.offset ps dflt v.toInt = (t : Int) ∧ Snd x t K9 ∧ K9 ls r h := by
  intro L
  induction L with
  | nil =>
    intro ps hlen _ hk
    have : ps = [] := List.length_eq_zero_iff.mp hlen.symm
    subst this
    exact ⟨tD, D, hD, kD, hk⟩
  | cons q L ih =>
    intro ps hlen hL hk
    cases ps with
    | nil => simp at hlen
    | cons w ps =>
      obtain ⟨k, T⟩ := q
      obtain ⟨a, o⟩ := w
      obtain ⟨e1, t, e2, e3⟩ := hL 0 _ _ rfl rfl
      by_cases hv : v = k
      · simp only [swGo, if_pos hv] at hk
        refine ⟨t, T, ?_, e3, hk⟩
        rw [Op.lookupswitch.offset_cons, if_pos (by rw [hv]; exact e1.symm)]
        exact e2
      · simp only [swGo, if_neg hv] at hk
        rw [Op.lookupswitch.offset_cons, if_neg (fun q => hv (Int32.toInt_inj.mp (by rw [← q]; exact e1.symm)))]
        exact ih ps (by simpa using hlen) (fun j q w h1 h2 => hL (j + 1) q w (by simpa using h1) (by simpa using h2)) hk
theorem s_lsw {dflt : Int} {ps : Array (Int × Int)} {len : Nat} {L : List (Int32 × Ct)} {tD : Nat} (G : xB x cc) (d : decode cc pc = .ok (.lookupswitch dflt ps, len)) (hp : (ps.toList.zip (ps.toList.drop 1)).all (fun (a, next) => a.1 < next.1) = true) (hD : (pc : Int) + dflt = (tD : Int)) (kD : Snd x tD D) (hlen : L.length = ps.toList.length)
    (hL : ∀ (j : Nat) (q : Int32 × Ct) (w : Int × Int), L[j]? = some q → ps.toList[j]? = some w → q.1.toInt = w.1 ∧ ∃ t : Nat, (pc : Int) + w.2 = (t : Int) ∧ Snd x t q.2) : Snd x pc (o_sw L D) := by
  intro ls st h hk H locs lsC hR hLo hl
  unfold o_sw at hk
  split at hk
  · next v r =>
    obtain ⟨t, K9, e1, e2, e3⟩ := look_of hD kD L ps.toList hlen hL hk
    exact lv_lookup G.1 G.2 d hp rfl e1 (e2 _ _ _ e3 H locs lsC hR hLo hl)
  · exact hk.elim
/-- the entries of a table, one behind the other -/
theorem tsw_nil {lo : Int} {offs : Array Int} {b : Nat} : ∀ (j : Nat) (q : Int32 × Ct), ([] : List (Int32 × Ct))[j]? = some q → q.1.toInt = lo + (b + j : Nat) ∧ ∃ (off : Int) (t : Nat), offs[b + j]? = some off ∧ (pc : Int) + off = (t : Int) ∧ Snd x t q.2 := fun j q h => by simp at h
theorem tsw_cons {lo : Int} {offs : Array Int} {b : Nat} {k : Int32} {L : List (Int32 × Ct)} (off : Int) (t : Nat) (h1 : k.toInt = lo + (b : Nat)) (h2 : offs[b]? = some off) (h3 : (pc : Int) + off = (t : Int)) (h4 : Snd x t T)
    (hL : ∀ (j : Nat) (q : Int32 × Ct), L[j]? = some q → q.1.toInt = lo + (b + 1 + j : Nat) ∧ ∃ (off : Int) (t : Nat), offs[b + 1 + j]? = some off ∧ (pc : Int) + off = (t : Int) ∧ Snd x t q.2) :
    ∀ (j : Nat) (q : Int32 × Ct), ((k, T) :: L)[j]? = some q → q.1.toInt = lo + (b + j : Nat) ∧ ∃ (off : Int) (t : Nat), offs[b + j]? = some off ∧ (pc : Int) + off = (t : Int) ∧ Snd x t q.2 := by
  intro j q h
  cases j with
  | zero => simp at h; subst h; exact ⟨h1, off, t, h2, h3, h4⟩
  | succ j =>
    have := hL j q (by simpa using h)
    rw [show b + 1 + j = b + (j + 1) by omega] at this
    exact this
theorem tsw_0 {lo : Int} {offs : Array Int} {L : List (Int32 × Ct)} (h : ∀ (j : Nat) (q : Int32 × Ct), L[j]? = some q → q.1.toInt = lo + (0 + j : Nat) ∧ ∃ (off : Int) (t : Nat), offs[0 + j]? = some off ∧ (pc : Int) + off = (t : Int) ∧ Snd x t q.2) :
    ∀ (j : Nat) (q : Int32 × Ct), L[j]? = some q → q.1.toInt = lo + j ∧ ∃ (off : Int) (t : Nat), offs[j]? = some off ∧ (pc : Int) + off = (t : Int) ∧ Snd x t q.2 := fun j q hj => by
  have := h j q hj
  rw [Nat.zero_add] at this
  exact this
theorem lsw_nil {ps : List (Int × Int)} : ∀ (j : Nat) (q : Int32 × Ct) (w : Int × Int), ([] : List (Int32 × Ct))[j]? = some q → ps[j]? = some w → q.1.toInt = w.1 ∧ ∃ t : Nat, (pc : Int) + w.2 = (t : Int) ∧ Snd x t q.2 := fun j q w h => by simp at h
theorem lsw_cons {k : Int32} {a o : Int} {L : List (Int32 × Ct)} {ps : List (Int × Int)} (t : Nat) (h1 : k.toInt = a) (h3 : (pc : Int) + o = (t : Int)) (h4 : Snd x t T)
    (hL : ∀ (j : Nat) (q : Int32 × Ct) (w : Int × Int), L[j]? = some q → ps[j]? = some w → q.1.toInt = w.1 ∧ ∃ t : Nat, (pc : Int) + w.2 = (t : Int) ∧ Snd x t q.2) :
    ∀ (j : Nat) (q : Int32 × Ct) (w : Int × Int), ((k, T) :: L)[j]? = some q → ((a, o) :: ps)[j]? = some w → q.1.toInt = w.1 ∧ ∃ t : Nat, (pc : Int) + w.2 = (t : Int) ∧ Snd x t q.2 := by
  intro j q w h1' h2'
  cases j with
  | zero => simp at h1' h2'; subst h1'; subst h2'; exact ⟨h1, t, h3, h4⟩
  | succ j => exact hL j q w (by simpa using h1') (by simpa using h2')
end SW
