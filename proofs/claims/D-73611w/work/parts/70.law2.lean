set_option maxRecDepth 100000
/-! what the making of a version does, row by row (plain) -/
def ro_F (c : Int) (old ids : List Int) (r1 r2 : Int) : Nat → Nat → List Int
  | 0, _ => []
  | f + 1, p => (if c = 0 ∧ (p : Int) = r1 then ids else []) ++ ((if (c = 1 ∧ r1 ≤ (p : Int) ∧ (p : Int) ≤ r1 + r2 - 1) ∨ old.length ≤ p then [] else [old.getD p 0]) ++ ro_F c old ids r1 r2 f (p + 1))
theorem g_bld.makeF {A : Nat → Int} {c d date v r1 r2 : Int} {ws : List Int} (hA : 0 ≤ A 5) (hk : c = 0 → A 5 + ws.length ≤ 319) (hm : 0 ≤ a_many A d ∧ a_many A d ≤ 9) (hd : 0 ≤ d ∧ d < 4) (hv : 0 ≤ v ∧ v < a_many A d) (hl : 0 ≤ a_long A d v ∧ a_long A d v ≤ 20) : ∀ (f p : Nat) (row : List Int) (C : Nat → Int), (p : Int) + f = a_long A d v + 1 → row.length + (ro_F c (a_row A d v) (g_ids (A 5) 0 ws.length) r1 r2 f p).length ≤ 20 → g_bld A d date ws row (if c = 0 ∧ r1 < p then ws.length else 0) C → g_bld A d date ws (row ++ ro_F c (a_row A d v) (g_ids (A 5) 0 ws.length) r1 r2 f p) (if c = 0 ∧ r1 < (p + f : Nat) then ws.length else 0) (g_makeF c d (10 * d + v) (a_long A d v) r1 r2 ws f p C) := by
  intro f
  induction f with
  | zero =>
    intro p row C hp hr h
    show g_bld A d date ws (row ++ []) _ C
    rw [List.append_nil]
    exact h
  | succ f ih =>
    intro p row C hp hr h
    have hlen := a_row_len A d v
    rw [show p + (f + 1) = (p + 1) + f by omega]
    show g_bld A d date ws _ _ (g_makeF c d (10 * d + v) (a_long A d v) r1 r2 ws f (p + 1) (g_old1 c d (10 * d + v) (a_long A d v) r1 r2 p (g_ins1 c d r1 ws p C)))
    have e0 : ro_F c (a_row A d v) (g_ids (A 5) 0 ws.length) r1 r2 (f + 1) p = (if c = 0 ∧ (p : Int) = r1 then g_ids (A 5) 0 ws.length else []) ++ ((if (c = 1 ∧ r1 ≤ (p : Int) ∧ (p : Int) ≤ r1 + r2 - 1) ∨ (a_row A d v).length ≤ p then [] else [(a_row A d v).getD p 0]) ++ ro_F c (a_row A d v) (g_ids (A 5) 0 ws.length) r1 r2 f (p + 1)) := rfl
    rw [e0] at hr ⊢
    simp only [List.length_append] at hr
    rw [← List.append_assoc, ← List.append_assoc]
    have h1 : g_bld A d date ws (row ++ (if c = 0 ∧ (p : Int) = r1 then g_ids (A 5) 0 ws.length else [])) (if c = 0 ∧ r1 < (p + 1 : Nat) then ws.length else 0) (g_ins1 c d r1 ws p C) := by
      unfold g_ins1
      by_cases hc : c = 0 ∧ (p : Int) = r1
      · rw [if_pos hc] at hr ⊢
        rw [if_pos hc, if_pos ⟨hc.1, by omega⟩]
        rw [if_neg (by omega)] at h
        have := h.words hA (hk hc.1) hm hd ws.length 0 row C (by omega) (by rw [g_ids_len] at hr; omega)
        rw [List.drop_zero] at this
        exact this
      · rw [if_neg hc, if_neg hc, List.append_nil]
        have e : (if c = 0 ∧ r1 < ((p + 1 : Nat) : Int) then ws.length else 0) = (if c = 0 ∧ r1 < (p : Int) then ws.length else 0) := by
          by_cases h9 : c = 0 ∧ r1 < (p : Int)
          · rw [if_pos h9, if_pos ⟨h9.1, by omega⟩]
          · rw [if_neg h9, if_neg (by omega)]
        rw [e]
        exact h
    have hrow : (p : Int) < a_long A d v → (a_row A d v).getD p 0 = g_ins1 c d r1 ws p C (Int.toNat (86 + 20 * (10 * d + v) + p)) := by
      intro hj
      rw [List.getD_eq_getElem?_getD, a_row_at hj, h1.old hA hm hd hv ⟨by omega, by omega⟩]
      rfl
    refine ih (p + 1) _ _ (by omega) (by simp only [List.length_append]; omega) ?_
    unfold g_old1
    by_cases hs : (c = 1 ∧ r1 ≤ (p : Int) ∧ (p : Int) ≤ r1 + r2 - 1) ∨ a_long A d v ≤ (p : Int)
    · have hs2 : (c = 1 ∧ r1 ≤ (p : Int) ∧ (p : Int) ≤ r1 + r2 - 1) ∨ (a_row A d v).length ≤ p := by omega
      rw [if_pos hs, if_pos hs2, List.append_nil]
      exact h1
    · have hs2 : ¬ ((c = 1 ∧ r1 ≤ (p : Int) ∧ (p : Int) ≤ r1 + r2 - 1) ∨ (a_row A d v).length ≤ p) := by omega
      rw [if_neg hs2] at hr ⊢
      rw [if_neg hs, hrow (by omega)]
      refine h1.add hA hm hd ?_
      simp only [List.length_append]
      simp only [List.length_cons, List.length_nil] at hr
      omega
theorem ro_nil {l : List Int} {i : Nat} (h : l.length ≤ i) : l.drop i = [] := List.drop_eq_nil_of_le h
theorem ro_hd {old : List Int} {p : Nat} (h : p < old.length) : [old.getD p 0] ++ old.drop (p + 1) = old.drop p := by
  rw [List.drop_eq_getElem_cons h, List.getD_eq_getElem?_getD, List.getElem?_eq_getElem h]; rfl
theorem ro_hdT {old : List Int} {p r : Nat} (h : p < old.length) (h2 : p < r) : (old.take r).drop p = [old.getD p 0] ++ (old.take r).drop (p + 1) := by
  have hl : p < (old.take r).length := by rw [List.length_take]; omega
  rw [List.drop_eq_getElem_cons hl, List.getD_eq_getElem?_getD, List.getElem?_eq_getElem h]
  simp
theorem ro_tkn {old : List Int} {p r : Nat} (h : r ≤ p) : (old.take r).drop p = [] := ro_nil (by rw [List.length_take]; omega)
theorem ro_back (c : Int) (old ids : List Int) (r1 r2 : Int) (hc : c = 3) : ∀ (f p : Nat), p + f = old.length + 1 → ro_F c old ids r1 r2 f p = old.drop p := by
  intro f
  induction f with
  | zero => intro p hp; rw [ro_nil (by omega)]; rfl
  | succ f ih =>
    intro p hp
    have c1 : ¬ (c = 0 ∧ (p : Int) = r1) := by omega
    unfold ro_F
    rw [if_neg c1, List.nil_append, ih (p + 1) (by omega)]
    by_cases h : old.length ≤ p
    · rw [if_pos (Or.inr h), ro_nil (i := p + 1) (by omega), ro_nil h]; rfl
    · have c2 : ¬ ((c = 1 ∧ r1 ≤ (p : Int) ∧ (p : Int) ≤ r1 + r2 - 1) ∨ old.length ≤ p) := by omega
      rw [if_neg c2, ro_hd (by omega)]
theorem ro_cutE (c : Int) (old ids : List Int) (r1 r2 : Nat) (hc : c = 1) : ∀ (f p : Nat), p + f = old.length + 1 → ro_F c old ids r1 r2 f p = (old.take r1).drop p ++ old.drop (max p (r1 + r2)) := by
  intro f
  induction f with
  | zero => intro p hp; rw [ro_nil (l := old.take r1) (by rw [List.length_take]; omega), ro_nil (by omega)]; rfl
  | succ f ih =>
    intro p hp
    have c1 : ¬ (c = 0 ∧ (p : Int) = r1) := by omega
    unfold ro_F
    rw [if_neg c1, List.nil_append, ih (p + 1) (by omega)]
    by_cases h : old.length ≤ p
    · rw [if_pos (Or.inr h), ro_nil (l := old) (i := max (p + 1) (r1 + r2)) (by omega), ro_nil (l := old) (i := max p (r1 + r2)) (by omega), ro_nil (l := old.take r1) (i := p + 1) (by rw [List.length_take]; omega), ro_nil (l := old.take r1) (i := p) (by rw [List.length_take]; omega)]; rfl
    · by_cases h2 : p < r1
      · have c2 : ¬ ((c = 1 ∧ (r1 : Int) ≤ (p : Int) ∧ (p : Int) ≤ r1 + r2 - 1) ∨ old.length ≤ p) := by omega
        rw [if_neg c2, ro_hdT (p := p) (by omega) h2, show max (p + 1) (r1 + r2) = r1 + r2 by omega, show max p (r1 + r2) = r1 + r2 by omega, List.append_assoc]
      · rw [ro_tkn (p := p + 1) (by omega), ro_tkn (p := p) (by omega), List.nil_append, List.nil_append]
        by_cases h3 : p < r1 + r2
        · rw [if_pos (Or.inl ⟨hc, by omega, by omega⟩), List.nil_append, show max (p + 1) (r1 + r2) = r1 + r2 by omega, show max p (r1 + r2) = r1 + r2 by omega]
        · have c2 : ¬ ((c = 1 ∧ (r1 : Int) ≤ (p : Int) ∧ (p : Int) ≤ r1 + r2 - 1) ∨ old.length ≤ p) := by omega
          rw [if_neg c2, show max (p + 1) (r1 + r2) = p + 1 by omega, show max p (r1 + r2) = p by omega, ro_hd (by omega)]
theorem ro_putE (c : Int) (old ids : List Int) (r1 : Nat) (r2 : Int) (hc : c = 0) (hr : r1 ≤ old.length) : ∀ (f p : Nat), p + f = old.length + 1 → ro_F c old ids r1 r2 f p = if p ≤ r1 then (old.take r1).drop p ++ (ids ++ old.drop r1) else old.drop p := by
  intro f
  induction f with
  | zero =>
    intro p hp
    have c1 : ¬ p ≤ r1 := by omega
    rw [if_neg c1, ro_nil (by omega)]; rfl
  | succ f ih =>
    intro p hp
    unfold ro_F
    rw [ih (p + 1) (by omega)]
    have tl : (if (c = 1 ∧ (r1 : Int) ≤ p ∧ (p : Int) ≤ r1 + r2 - 1) ∨ old.length ≤ p then [] else [old.getD p 0]) ++ old.drop (p + 1) = old.drop p := by
      by_cases h : old.length ≤ p
      · rw [if_pos (Or.inr h), ro_nil (i := p + 1) (by omega), ro_nil h]; rfl
      · have c2 : ¬ ((c = 1 ∧ (r1 : Int) ≤ (p : Int) ∧ (p : Int) ≤ r1 + r2 - 1) ∨ old.length ≤ p) := by omega
        rw [if_neg c2, ro_hd (by omega)]
    by_cases h1 : p = r1
    · have c1 : c = 0 ∧ (p : Int) = (r1 : Int) := ⟨hc, by omega⟩
      have c2 : ¬ p + 1 ≤ r1 := by omega
      have c3 : p ≤ r1 := by omega
      rw [if_pos c1, if_neg c2, if_pos c3, tl, h1, ro_tkn (Nat.le_refl r1)]; rfl
    · have c1 : ¬ (c = 0 ∧ (p : Int) = (r1 : Int)) := by omega
      rw [if_neg c1, List.nil_append]
      by_cases h2 : p < r1
      · have c2 : p + 1 ≤ r1 := by omega
        have c3 : p ≤ r1 := by omega
        have c4 : ¬ ((c = 1 ∧ (r1 : Int) ≤ (p : Int) ∧ (p : Int) ≤ r1 + r2 - 1) ∨ old.length ≤ p) := by omega
        rw [if_pos c2, if_pos c3, if_neg c4, ro_hdT (p := p) (by omega) h2, List.append_assoc]
      · have c2 : ¬ p + 1 ≤ r1 := by omega
        have c3 : ¬ p ≤ r1 := by omega
        rw [if_neg c2, if_neg c3, tl]
/-- the row of a change -/
def ro_ch (c : Int) (old ids : List Int) (r1 r2 : Int) : List Int := if c = 0 then ro_put old ids r1.toNat else if c = 1 then ro_cut old r1.toNat r2.toNat else if c = 2 then ro_mvF old r1.toNat r2.toNat old.length 0 0 else old
/-- from which version -/
def g_from (A : Nat → Int) (c d r1 : Int) : Int := if c = 3 then r1 else a_many A d - 1
theorem g_make_bld {A : Nat → Int} {c r0 r1 r2 date : Int} {ws : List Int} (hA : g_ok A) (hk : c = 0 → A 5 + ws.length ≤ 319) (hr : 0 ≤ r0 ∧ r0 < 4) (hm : 1 ≤ a_many A r0 ∧ a_many A r0 ≤ 9) (hc : 0 ≤ c ∧ c ≤ 3) (h1 : 0 ≤ r1) (h2 : c = 1 ∨ c = 2 → 0 ≤ r2) (ht : g_there A c r0 r1 r2 = true) (hlen : c = 0 → a_long A r0 (a_many A r0 - 1) + ws.length ≤ 20) :
    (0 ≤ g_from A c r0 r1 ∧ g_from A c r0 r1 < a_many A r0) ∧ g_bld A r0 date ws (ro_ch c (a_row A r0 (g_from A c r0 r1)) (g_ids (A 5) 0 ws.length) r1 r2) (if c = 0 then ws.length else 0) (g_make A c r0 r1 r2 ws date) := by
  have hA5 := hA.1
  have hm' : 0 ≤ a_many A r0 ∧ a_many A r0 ≤ 9 := ⟨by omega, hm.2⟩
  have hB := g_bld.begin (A := A) (date := date) ws hm' hr
  have ht1 : c = 0 → r1 ≤ a_long A r0 (a_many A r0 - 1) := by
    intro h
    unfold g_there at ht
    rw [if_pos h] at ht
    have ht : (!decide (a_long A r0 (a_many A r0 - 1) < r1)) = true := ht
    simp at ht
    omega
  have ht2 : c = 2 → r1 < a_long A r0 (a_many A r0 - 1) ∧ r2 < a_long A r0 (a_many A r0 - 1) := by
    intro h
    unfold g_there at ht
    rw [if_neg (by omega), if_neg (by omega), if_pos h] at ht
    have ht : (if a_long A r0 (a_many A r0 - 1) ≤ r1 then false else !decide (a_long A r0 (a_many A r0 - 1) ≤ r2)) = true := ht
    split at ht
    · cases ht
    · simp at ht
      omega
  have ht3 : c = 3 → r1 < a_many A r0 := by
    intro h
    unfold g_there at ht
    rw [if_neg (by omega), if_neg (by omega), if_neg (by omega)] at ht
    simp at ht
    omega
  have hv : 0 ≤ g_from A c r0 r1 ∧ g_from A c r0 r1 < a_many A r0 := by
    unfold g_from
    split
    · rename_i h
      exact ⟨h1, ht3 h⟩
    · omega
  refine ⟨hv, ?_⟩
  have hof : g_of A c r0 r1 = 10 * r0 + g_from A c r0 r1 := by
    unfold g_of g_from
    split
    · rfl
    · rfl
  have hl := hA.2.2 (10 * r0 + g_from A c r0 r1) (by omega) (by omega)
  have hl : 0 ≤ a_long A r0 (g_from A c r0 r1) ∧ a_long A r0 (g_from A c r0 r1) ≤ 20 := hl
  have hrl := a_row_len A r0 (g_from A c r0 r1)
  have hlast : c ≠ 3 → g_from A c r0 r1 = a_many A r0 - 1 := fun h => by unfold g_from; rw [if_neg h]
  unfold g_make
  rw [hof]
  have ell : A (Int.toNat (46 + (10 * r0 + g_from A c r0 r1))) = a_long A r0 (g_from A c r0 r1) := rfl
  rw [ell]
  generalize g_from A c r0 r1 = v at *
  by_cases hc2 : c = 2
  · rw [if_pos hc2, if_neg (by omega)]
    unfold ro_ch
    rw [if_neg (by omega), if_neg (by omega), if_pos hc2]
    have e1 : ((r1.toNat : Nat) : Int) = r1 := by omega
    have e2 : ((r2.toNat : Nat) : Int) = r2 := by have := h2 (Or.inr hc2); omega
    have e3 := hlast (by omega)
    have := g_bld.moves (ws := ws) (date := date) (r1 := r1.toNat) (r2 := r2.toNat) (v := v) (by omega) hm' hr hv hl (by rw [e1, e3]; exact (ht2 hc2).1) (by rw [e2, e3]; exact (ht2 hc2).2) (a_long A r0 v).toNat 0 0 [] (g_begin A r0 date) (by omega) rfl (by unfold mv_p; omega) hB
    rw [e1, e2, List.nil_append] at this
    rw [hrl]
    exact this
  · rw [if_neg hc2]
    have hch : ro_F c (a_row A r0 v) (g_ids (A 5) 0 ws.length) r1 r2 ((a_long A r0 v).toNat + 1) 0 = ro_ch c (a_row A r0 v) (g_ids (A 5) 0 ws.length) r1 r2 := by
      have e1 : r1 = ((r1.toNat : Nat) : Int) := by omega
      unfold ro_ch
      by_cases h0 : c = 0
      · rw [if_pos h0]
        have := ht1 h0
        have e3 := hlast (by omega)
        have := ro_putE c (a_row A r0 v) (g_ids (A 5) 0 ws.length) r1.toNat r2 h0 (by rw [hrl, e3]; omega) ((a_long A r0 v).toNat + 1) 0 (by omega)
        rw [← e1] at this
        rw [this, if_pos (by omega), List.drop_zero]
        rfl
      · rw [if_neg h0]
        by_cases h9 : c = 1
        · rw [if_pos h9]
          have e2 : r2 = ((r2.toNat : Nat) : Int) := by have := h2 (Or.inl h9); omega
          have := ro_cutE c (a_row A r0 v) (g_ids (A 5) 0 ws.length) r1.toNat r2.toNat h9 ((a_long A r0 v).toNat + 1) 0 (by omega)
          rw [← e1, ← e2] at this
          rw [this, List.drop_zero, show max 0 (r1.toNat + r2.toNat) = r1.toNat + r2.toNat by omega]
          rfl
        · rw [if_neg h9, if_neg hc2]
          rw [ro_back c (a_row A r0 v) (g_ids (A 5) 0 ws.length) r1 r2 (by omega) ((a_long A r0 v).toNat + 1) 0 (by omega), List.drop_zero]
    have hlenF : ([] : List Int).length + (ro_F c (a_row A r0 v) (g_ids (A 5) 0 ws.length) r1 r2 ((a_long A r0 v).toNat + 1) 0).length ≤ 20 := by
      rw [hch]
      unfold ro_ch
      by_cases h0 : c = 0
      · rw [if_pos h0]
        have := hlen h0
        have e3 := hlast (by omega)
        unfold ro_put
        simp only [List.length_append, List.length_take, List.length_drop, List.length_nil, g_ids_len, hrl]
        rw [e3] at *
        omega
      · rw [if_neg h0]
        by_cases h9 : c = 1
        · rw [if_pos h9]
          unfold ro_cut
          simp only [List.length_append, List.length_take, List.length_drop, List.length_nil, hrl]
          omega
        · rw [if_neg h9, if_neg hc2]
          rw [hrl, List.length_nil]
          omega
    have h0 : (if c = 0 ∧ r1 < ((0 : Nat) : Int) then ws.length else 0) = 0 := by rw [if_neg (by omega)]
    have := g_bld.makeF (c := c) (r1 := r1) (r2 := r2) (by omega) hk hm' hr hv hl ((a_long A r0 v).toNat + 1) 0 [] (g_begin A r0 date) (by omega) hlenF (by rw [h0]; exact hB)
    rw [List.nil_append, hch] at this
    have e9 : (if c = 0 ∧ r1 < ((0 + ((a_long A r0 v).toNat + 1) : Nat) : Int) then ws.length else 0) = (if c = 0 then ws.length else 0) := by
      by_cases h0 : c = 0
      · have := ht1 h0
        have e3 := hlast (by omega)
        rw [← e3] at this
        rw [if_pos ⟨h0, by omega⟩, if_pos h0]
      · rw [if_neg (fun h => h0 h.1), if_neg h0]
    rw [e9] at this
    exact this
