set_option maxRecDepth 100000
/-! what the making of a version does (plain) -/
/-- the places that the making of version l of document d leaves alone, k tokens being new -/
def g_un (n d l k : Int) (i : Nat) : Prop := (i : Int) ≠ 5 ∧ (i : Int) ≠ 1 + d ∧ (i : Int) ≠ 6 + l ∧ (i : Int) ≠ 46 + l ∧ ¬ (86 + 20 * l ≤ i ∧ (i : Int) < 106 + 20 * l) ∧ ¬ (886 + n ≤ i ∧ (i : Int) < 886 + n + k) ∧ ¬ (1206 + n ≤ i ∧ (i : Int) < 1206 + n + k)
def g_bld (A : Nat → Int) (d date : Int) (ws : List Int) (row : List Int) (k : Nat) (C : Nat → Int) : Prop :=
  C 5 = A 5 + k ∧ a_many C d = a_many A d + 1 ∧ C (Int.toNat (6 + (10 * d + a_many A d))) = date ∧ C (Int.toNat (46 + (10 * d + a_many A d))) = row.length ∧ (∀ (i : Nat) (x : Int), row[i]? = some x → C (Int.toNat (86 + 20 * (10 * d + a_many A d) + i)) = x) ∧ (∀ (j : Nat) (x : Int), j < k → ws[j]? = some x → C (Int.toNat (886 + A 5 + j)) = x ∧ C (Int.toNat (1206 + A 5 + j)) = d) ∧ ∀ i : Nat, g_un (A 5) d (10 * d + a_many A d) k i → C i = A i
theorem g_bld.last {A C : Nat → Int} {d date : Int} {ws row : List Int} {k : Nat} (h : g_bld A d date ws row k C) : g_last C d = 10 * d + a_many A d := by
  have := h.2.1
  unfold g_last
  omega
theorem g_bld.add {A C : Nat → Int} {d date t : Int} {ws row : List Int} {k : Nat} (hA : 0 ≤ A 5) (hm : 0 ≤ a_many A d ∧ a_many A d ≤ 9) (hd : 0 ≤ d ∧ d < 4) (hr : row.length < 20) (h : g_bld A d date ws row k C) : g_bld A d date ws (row ++ [t]) k (g_add C d t) := by
  have hl := h.last
  obtain ⟨h1, h2, h3, h4, h5, h6, h7⟩ := h
  have e : g_add C d t = g_set (g_set C (86 + 20 * (10 * d + a_many A d) + row.length) t) (46 + (10 * d + a_many A d)) ((row.length : Nat) + 1) := by
    unfold g_add
    rw [hl, h4, if_neg (by omega)]
  generalize hL : 10 * d + a_many A d = l at *
  rw [e]
  refine ⟨?_, ?_, ?_, ?_, fun i x hx => ?_, fun j x hj hx => ?_, fun i hi => ?_⟩
  · rw [g_set_ne (by omega), g_set_ne (by omega)]; exact h1
  · unfold a_many at h2 ⊢
    rw [g_set_ne (by omega), g_set_ne (by omega)]; exact h2
  · rw [hL, g_set_ne (by omega), g_set_ne (by omega)]; exact h3
  · rw [hL, g_set_at]; simp
  · rw [hL, g_set_ne (by omega)]
    by_cases hi : i < row.length
    · rw [g_set_ne (by omega)]
      rw [List.getElem?_append_left hi] at hx
      exact h5 i x hx
    · have hi2 : i < (row ++ [t]).length := (List.getElem?_eq_some_iff.mp hx).1
      have hi3 : i = row.length := by simp at hi2; omega
      subst hi3
      rw [g_set_at]
      simpa using hx
  · have h6 := h6 j x hj hx
    rw [g_set_ne (by omega), g_set_ne (by omega), g_set_ne (by omega), g_set_ne (by omega)]
    exact h6
  · rw [hL] at hi
    unfold g_un at hi
    rw [g_set_ne (by omega), g_set_ne (by omega)]
    exact h7 i hi
theorem g_bld.new {A C : Nat → Int} {d date w : Int} {ws row : List Int} {k : Nat} (hA : 0 ≤ A 5) (hk : A 5 + k ≤ 318) (hm : 0 ≤ a_many A d ∧ a_many A d ≤ 9) (hd : 0 ≤ d ∧ d < 4) (hr : row.length ≤ 20) (hw : ws[k]? = some w) (h : g_bld A d date ws row k C) : g_bld A d date ws row (k + 1) (g_new C d w) := by
  obtain ⟨h1, h2, h3, h4, h5, h6, h7⟩ := h
  have e : g_new C d w = g_set (g_set (g_set C (886 + (A 5 + k)) w) (1206 + (A 5 + k)) d) 5 (A 5 + k + 1) := by
    unfold g_new
    rw [h1, show min 319 (A 5 + (k : Int) + 1) = A 5 + k + 1 by omega]
  generalize hL : 10 * d + a_many A d = l at *
  rw [e]
  refine ⟨?_, ?_, ?_, ?_, fun i x hx => ?_, fun j x hj hx => ?_, fun i hi => ?_⟩
  · rw [show (5 : Nat) = Int.toNat 5 from rfl, g_set_at]; show A 5 + k + 1 = A 5 + ((k + 1 : Nat) : Int); omega
  · unfold a_many at h2 ⊢
    rw [g_set_ne (by omega), g_set_ne (by omega), g_set_ne (by omega)]; exact h2
  · rw [hL, g_set_ne (by omega), g_set_ne (by omega), g_set_ne (by omega)]; exact h3
  · rw [hL, g_set_ne (by omega), g_set_ne (by omega), g_set_ne (by omega)]; exact h4
  · have hi2 : i < row.length := (List.getElem?_eq_some_iff.mp hx).1
    rw [hL, g_set_ne (by omega), g_set_ne (by omega), g_set_ne (by omega)]
    exact h5 i x hx
  · by_cases hjk : j < k
    · have h6 := h6 j x hjk hx
      rw [g_set_ne (by omega), g_set_ne (by omega), g_set_ne (by omega), g_set_ne (by omega), g_set_ne (by omega), g_set_ne (by omega)]
      exact h6
    · have hj2 : j = k := by omega
      subst hj2
      rw [hw] at hx
      have hx := Option.some.inj hx
      constructor
      · rw [g_set_ne (by omega), g_set_ne (by omega), show 886 + A 5 + (j : Int) = 886 + (A 5 + j) by omega, g_set_at, hx]
      · rw [g_set_ne (by omega), show 1206 + A 5 + (j : Int) = 1206 + (A 5 + j) by omega, g_set_at]
  · rw [hL] at hi
    unfold g_un at hi
    rw [g_set_ne (by omega), g_set_ne (by omega), g_set_ne (by omega)]
    exact h7 i (by unfold g_un; omega)
theorem g_bld.begin {A : Nat → Int} {d date : Int} (ws : List Int) (hm : 0 ≤ a_many A d ∧ a_many A d ≤ 9) (hd : 0 ≤ d ∧ d < 4) : g_bld A d date ws [] 0 (g_begin A d date) := by
  have hb := g_beg0_many (A := A) hd.1
  have hl : g_last (g_beg0 A d) d = 10 * d + a_many A d := by unfold g_last; omega
  have e : g_begin A d date = g_set (g_set (g_beg0 A d) (46 + (10 * d + a_many A d)) 0) (6 + (10 * d + a_many A d)) date := by unfold g_begin; rw [hl]
  rw [e]
  generalize hL : 10 * d + a_many A d = l at *
  refine ⟨?_, ?_, ?_, ?_, fun i x hx => ?_, fun j x hj hx => ?_, fun i hi => ?_⟩
  · rw [g_set_ne (by omega), g_set_ne (by omega)]
    unfold g_beg0
    rw [g_set_ne (by omega)]; simp
  · unfold a_many at hb ⊢
    rw [g_set_ne (by omega), g_set_ne (by omega)]; exact hb
  · rw [hL, g_set_at]
  · rw [hL, g_set_ne (by omega), g_set_at]; rfl
  · simp at hx
  · omega
  · rw [hL] at hi
    unfold g_un at hi
    rw [g_set_ne (by omega), g_set_ne (by omega)]
    unfold g_beg0
    rw [g_set_ne (by omega)]
/-- the numbers of new tokens -/
def g_ids (n : Int) (k : Nat) : Nat → List Int
  | 0 => []
  | f + 1 => (n + k) :: g_ids n (k + 1) f
theorem g_ids_len (n : Int) : ∀ (f k : Nat), (g_ids n k f).length = f
  | 0, _ => rfl
  | f + 1, k => by show (g_ids n (k + 1) f).length + 1 = _; rw [g_ids_len n f]
theorem g_bld.words {A : Nat → Int} {d date : Int} {ws : List Int} (hA : 0 ≤ A 5) (hk : A 5 + ws.length ≤ 319) (hm : 0 ≤ a_many A d ∧ a_many A d ≤ 9) (hd : 0 ≤ d ∧ d < 4) : ∀ (f k : Nat) (row : List Int) (C : Nat → Int), k + f = ws.length → row.length + f ≤ 20 → g_bld A d date ws row k C → g_bld A d date ws (row ++ g_ids (A 5) k f) ws.length (g_words C d (ws.drop k)) := by
  intro f
  induction f with
  | zero =>
    intro k row C hkf hr h
    rw [List.drop_eq_nil_of_le (by omega)]
    have : k = ws.length := by omega
    subst this
    show g_bld A d date ws (row ++ []) ws.length C
    rw [List.append_nil]
    exact h
  | succ f ih =>
    intro k row C hkf hr h
    have hx : ws[k]? = some ws[k] := List.getElem?_eq_getElem (by omega)
    rw [List.drop_eq_getElem_cons (by omega)]
    have h1 := h.new hA (by omega) hm hd (by omega) hx
    have h2 := g_bld.add (t := C 5) hA hm hd (by omega) h1
    have := ih (k + 1) (row ++ [C 5]) _ (by omega) (by simp; omega) h2
    rw [List.append_assoc, h.1] at this
    rw [show g_words C d (ws[k] :: ws.drop (k + 1)) = g_words (g_add (g_new C d ws[k]) d (C 5)) d (ws.drop (k + 1)) from rfl, h.1]
    exact this
/-- a version's tokens -/
def a_row (A : Nat → Int) (d v : Int) : List Int := (List.range (a_long A d v).toNat).map (fun p => a_tok A d v (p : Nat))
theorem a_row_len (A : Nat → Int) (d v : Int) : (a_row A d v).length = (a_long A d v).toNat := by unfold a_row; simp
theorem a_row_at {A : Nat → Int} {d v : Int} {p : Nat} (h : (p : Int) < a_long A d v) : (a_row A d v)[p]? = some (a_tok A d v p) := by
  unfold a_row
  rw [List.getElem?_map, List.getElem?_range (by omega)]
  rfl
/-- the row that a change makes -/
def ro_put (row ids : List Int) (r1 : Nat) : List Int := row.take r1 ++ (ids ++ row.drop r1)
def ro_cut (row : List Int) (r1 r2 : Nat) : List Int := row.take r1 ++ row.drop (r1 + r2)
def ro_mvF (row : List Int) (r1 r2 : Nat) : Nat → Nat → Nat → List Int
  | 0, _, _ => []
  | f + 1, i, p => if p = r2 then row.getD r1 0 :: ro_mvF row r1 r2 f (if i = r1 then i + 1 else i) (p + 1) else row.getD (if i = r1 then i + 1 else i) 0 :: ro_mvF row r1 r2 f ((if i = r1 then i + 1 else i) + 1) (p + 1)
theorem ro_mvF_len (row : List Int) (r1 r2 : Nat) : ∀ (f i p : Nat), (ro_mvF row r1 r2 f i p).length = f
  | 0, _, _ => rfl
  | f + 1, i, p => by
    unfold ro_mvF
    split
    · show (ro_mvF row r1 r2 f _ _).length + 1 = _; rw [ro_mvF_len row r1 r2 f]
    · show (ro_mvF row r1 r2 f _ _).length + 1 = _; rw [ro_mvF_len row r1 r2 f]
/-- an old version's place is left alone -/
theorem g_bld.old {A C : Nat → Int} {d date v p : Int} {ws row : List Int} {k : Nat} (hA : 0 ≤ A 5) (hm : 0 ≤ a_many A d ∧ a_many A d ≤ 9) (hd : 0 ≤ d ∧ d < 4) (hv : 0 ≤ v ∧ v < a_many A d) (hp : 0 ≤ p ∧ p < 20) (h : g_bld A d date ws row k C) : C (Int.toNat (86 + 20 * (10 * d + v) + p)) = a_tok A d v p := by
  unfold a_tok
  refine h.2.2.2.2.2.2 _ ?_
  unfold g_un
  omega
/-- how far the walk over the old row is -/
def mv_p (r1 r2 i p : Nat) : Prop := (r2 < p ∧ r1 < i ∧ i = p) ∨ (r2 < p ∧ i ≤ r1 ∧ i + 1 = p) ∨ (p ≤ r2 ∧ r1 < i ∧ i = p + 1) ∨ (p ≤ r2 ∧ i ≤ r1 ∧ i = p)
theorem g_bld.moves {A : Nat → Int} {d date v : Int} {ws : List Int} {r1 r2 : Nat} (hA : 0 ≤ A 5) (hm : 0 ≤ a_many A d ∧ a_many A d ≤ 9) (hd : 0 ≤ d ∧ d < 4) (hv : 0 ≤ v ∧ v < a_many A d) (hl : 0 ≤ a_long A d v ∧ a_long A d v ≤ 20) (h1 : (r1 : Int) < a_long A d v) (h2 : (r2 : Int) < a_long A d v) : ∀ (f i p : Nat) (row : List Int) (C : Nat → Int), (p : Int) + f = a_long A d v → row.length = p → mv_p r1 r2 i p → g_bld A d date ws row 0 C → g_bld A d date ws (row ++ ro_mvF (a_row A d v) r1 r2 f i p) 0 (g_mvF d (10 * d + v) r1 r2 f i p C) := by
  intro f
  induction f with
  | zero =>
    intro i p row C hp hr hi h
    show g_bld A d date ws (row ++ []) 0 C
    rw [List.append_nil]
    exact h
  | succ f ih =>
    intro i p row C hp hr hi h
    have hrow : ∀ j : Nat, (j : Int) < a_long A d v → (a_row A d v).getD j 0 = C (Int.toNat (86 + 20 * (10 * d + v) + j)) := by
      intro j hj
      rw [List.getD_eq_getElem?_getD, a_row_at hj, h.old hA hm hd hv ⟨by omega, by omega⟩]
      rfl
    unfold g_mvF ro_mvF
    have ei : (if (i : Int) = (r1 : Int) then (i : Int) + 1 else (i : Int) + 0) = ((if i = r1 then i + 1 else i : Nat) : Int) := by
      by_cases hq : i = r1
      · rw [if_pos (by omega), if_pos hq]; omega
      · rw [if_neg (by omega), if_neg hq]; omega
    rw [ei]
    generalize hI : (if i = r1 then i + 1 else i) = i' at *
    have hi' : mv_p r1 r2 i' p ∧ i' ≠ r1 := by
      unfold mv_p at hi ⊢
      rw [← hI]
      split <;> omega
    obtain ⟨hi', hne⟩ := hi'
    unfold mv_p at hi'
    by_cases hp2 : p = r2
    · rw [if_pos (show (p : Int) = (r2 : Int) by omega), if_pos hp2, hrow r1 h1]
      have := ih i' (p + 1) (row ++ [C (Int.toNat (86 + 20 * (10 * d + v) + r1))]) _ (by omega) (by simp; omega) (by unfold mv_p; omega) (h.add (t := C (Int.toNat (86 + 20 * (10 * d + v) + r1))) hA hm hd (by omega))
      rw [List.append_assoc] at this
      exact this
    · have hlt : (i' : Int) < a_long A d v := by omega
      rw [if_neg (show ¬ (p : Int) = (r2 : Int) by omega), if_neg hp2, hrow i' hlt]
      have := ih (i' + 1) (p + 1) (row ++ [C (Int.toNat (86 + 20 * (10 * d + v) + i'))]) _ (by omega) (by simp; omega) (by unfold mv_p; omega) (h.add (t := C (Int.toNat (86 + 20 * (10 * d + v) + i'))) hA hm hd (by omega))
      rw [List.append_assoc] at this
      exact this
