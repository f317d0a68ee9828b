set_option maxRecDepth 100000
/-! the rows of a change (plain) -/
theorem ro_mvE {row : List Int} {r1 r2 : Nat} (h1 : r1 < row.length) (h2 : r2 < row.length) : ∀ (f i p : Nat), p + f = row.length → mv_p r1 r2 i p → ro_mvF row r1 r2 f i p = if p ≤ r2 then ((row.eraseIdx r1).take r2).drop p ++ row.getD r1 0 :: (row.eraseIdx r1).drop r2 else (row.eraseIdx r1).drop (p - 1) := by
  have hel : (row.eraseIdx r1).length = row.length - 1 := List.length_eraseIdx_of_lt h1
  have hat : ∀ q, q < row.length - 1 → (row.eraseIdx r1).getD q 0 = row.getD (if q < r1 then q else q + 1) 0 := by
    intro q hq
    rw [List.getD_eq_getElem?_getD, List.getElem?_eraseIdx, List.getD_eq_getElem?_getD]
    split <;> rfl
  intro f
  induction f with
  | zero =>
    intro i p hp hi
    have c1 : ¬ p ≤ r2 := by omega
    rw [if_neg c1, ro_nil (by omega)]; rfl
  | succ f ih =>
    intro i p hp hi
    unfold ro_mvF
    generalize hI : (if i = r1 then i + 1 else i) = i'
    have hi' : mv_p r1 r2 i' p ∧ i' ≠ r1 := by
      unfold mv_p at hi ⊢
      rw [← hI]
      split <;> omega
    obtain ⟨hi', hne⟩ := hi'
    unfold mv_p at hi'
    by_cases hp2 : p = r2
    · have c1 : ¬ p + 1 ≤ r2 := by omega
      have c2 : p ≤ r2 := by omega
      rw [if_pos hp2, ih i' (p + 1) (by omega) (by unfold mv_p; omega), if_neg c1, if_pos c2, ro_tkn (r := r2) (p := p) (by omega), hp2]
      rfl
    · rw [if_neg hp2, ih (i' + 1) (p + 1) (by omega) (by unfold mv_p; omega)]
      by_cases h3 : p < r2
      · have c1 : p + 1 ≤ r2 := by omega
        have c2 : p ≤ r2 := by omega
        rw [if_pos c1, if_pos c2, ro_hdT (old := row.eraseIdx r1) (p := p) (by omega) h3, hat p (by omega)]
        have : (if p < r1 then p else p + 1) = i' := by split <;> omega
        rw [this]
        rfl
      · have c1 : ¬ p + 1 ≤ r2 := by omega
        have c2 : ¬ p ≤ r2 := by omega
        rw [if_neg c1, if_neg c2, ← ro_hd (old := row.eraseIdx r1) (p := p - 1) (by omega), hat (p - 1) (by omega), show p + 1 - 1 = p - 1 + 1 by omega]
        have : (if p - 1 < r1 then p - 1 else p - 1 + 1) = i' := by split <;> omega
        rw [this]
        rfl
theorem ro_mv0 {row : List Int} {r1 r2 : Nat} (h1 : r1 < row.length) (h2 : r2 < row.length) : ro_mvF row r1 r2 row.length 0 0 = (row.eraseIdx r1).take r2 ++ row.getD r1 0 :: (row.eraseIdx r1).drop r2 := by
  rw [ro_mvE h1 h2 row.length 0 0 (by omega) (by unfold mv_p; omega), if_pos (Nat.zero_le _), List.drop_zero]
theorem er_perm {row : List Int} {r1 : Nat} (h1 : r1 < row.length) : (row.getD r1 0 :: row.eraseIdx r1).Perm row := by
  rw [List.eraseIdx_eq_take_drop_succ, List.getD_eq_getElem?_getD, List.getElem?_eq_getElem h1]
  refine List.perm_middle.symm.trans (List.Perm.of_eq ?_)
  show row.take r1 ++ row[r1] :: row.drop (r1 + 1) = row
  rw [← List.drop_eq_getElem_cons h1, List.take_append_drop]
theorem ro_mv_perm {row : List Int} {r1 r2 : Nat} (h1 : r1 < row.length) (h2 : r2 < row.length) : (ro_mvF row r1 r2 row.length 0 0).Perm row := by
  rw [ro_mv0 h1 h2]
  refine List.perm_middle.trans ?_
  rw [List.take_append_drop]
  exact er_perm h1
theorem ro_put_perm (row ids : List Int) (r1 : Nat) : (ro_put row ids r1).Perm (ids ++ row) := by
  unfold ro_put
  rw [← List.append_assoc]
  refine (List.Perm.append_right _ List.perm_append_comm).trans ?_
  rw [List.append_assoc, List.take_append_drop]
theorem ro_cut_sub (row : List Int) (r1 r2 : Nat) : List.Sublist (ro_cut row r1 r2) row := by
  unfold ro_cut
  have : List.Sublist (row.take r1 ++ row.drop (r1 + r2)) (row.take r1 ++ row.drop r1) := by
    refine List.Sublist.append (List.Sublist.refl _) ?_
    rw [← List.drop_drop]
    exact List.drop_sublist _ _
  rw [List.take_append_drop] at this
  exact this
theorem ro_ch_ok {c r1 r2 n : Int} {old : List Int} {k : Nat} (hc : 0 ≤ c ∧ c ≤ 3) (h2 : c = 2 → r1.toNat < old.length ∧ r2.toNat < old.length) (ho : ∀ x ∈ old, x < n) (hn : old.Nodup) (hl : old.length ≤ 20) (hk : c = 0 → old.length + k ≤ 20) (hi : c ≠ 0 → k = 0) :
    (ro_ch c old (g_ids n 0 k) r1 r2).length ≤ 20 ∧ (∀ x ∈ ro_ch c old (g_ids n 0 k) r1 r2, x ∈ old ∨ (n ≤ x ∧ x < n + k)) ∧ (ro_ch c old (g_ids n 0 k) r1 r2).Nodup ∧ (∀ x, n ≤ x → x < n + k → x ∈ ro_ch c old (g_ids n 0 k) r1 r2) := by
  unfold ro_ch
  by_cases h0 : c = 0
  · rw [if_pos h0]
    have hp := ro_put_perm old (g_ids n 0 k) r1.toNat
    refine ⟨?_, fun x hx => ?_, ?_, fun x hx0 hx1 => ?_⟩
    · rw [hp.length_eq, List.length_append, g_ids_len]
      have := hk h0
      omega
    · rcases List.mem_append.mp (hp.mem_iff.mp hx) with h | h
      · rw [g_ids_mem] at h
        exact Or.inr ⟨by omega, by omega⟩
      · exact Or.inl h
    · rw [hp.nodup_iff]
      refine List.nodup_append.mpr ⟨g_ids_nd n k 0, hn, fun x hx y hy he => ?_⟩
      rw [g_ids_mem] at hx
      have := ho y hy
      omega
    · refine hp.mem_iff.mpr (List.mem_append.mpr (Or.inl ?_))
      rw [g_ids_mem]
      omega
  · rw [if_neg h0]
    have hk0 := hi h0
    subst hk0
    by_cases h1 : c = 1
    · rw [if_pos h1]
      have hs := ro_cut_sub old r1.toNat r2.toNat
      refine ⟨by have := hs.length_le; omega, fun x hx => Or.inl (hs.subset hx), hn.sublist hs, fun x hx0 hx1 => by omega⟩
    · rw [if_neg h1]
      by_cases h3 : c = 2
      · rw [if_pos h3]
        have hp := ro_mv_perm (h2 h3).1 (h2 h3).2
        refine ⟨by rw [hp.length_eq]; exact hl, fun x hx => Or.inl (hp.mem_iff.mp hx), hp.nodup_iff.mpr hn, fun x hx0 hx1 => by omega⟩
      · rw [if_neg h3]
        exact ⟨hl, fun x hx => Or.inl hx, hn, fun x hx0 hx1 => by omega⟩
theorem g_make_val {A : Nat → Int} {c r0 r1 r2 date : Int} {ws : List Int} (hv : g_val A) (hk : c = 0 → A 5 + ws.length ≤ 319) (hr : 0 ≤ r0 ∧ r0 < A 0) (hm : 1 ≤ a_many A r0 ∧ a_many A r0 ≤ 9) (hc : 0 ≤ c ∧ c ≤ 3) (h1 : 0 ≤ r1) (h2 : c = 1 ∨ c = 2 → 0 ≤ r2) (ht : g_there A c r0 r1 r2 = true) (hlen : c = 0 → a_long A r0 (a_many A r0 - 1) + ws.length ≤ 20) (hws : ∀ w ∈ ws, 1 ≤ w ∧ w < 531441) (hdate : rI date) :
    g_val (g_make A c r0 r1 r2 ws date) ∧ g_make A c r0 r1 r2 ws date 5 = A 5 + (if c = 0 then ws.length else 0 : Nat) ∧ g_make A c r0 r1 r2 ws date 0 = A 0 ∧ ∀ e : Int, 0 ≤ e → e < 4 → a_many (g_make A c r0 r1 r2 ws date) e = if e = r0 then a_many A r0 + 1 else a_many A e := by
  have hA := hv.1
  have hA0 := hv.2.1
  have hr4 : 0 ≤ r0 ∧ r0 < 4 := ⟨hr.1, by omega⟩
  obtain ⟨hf, hb⟩ := g_make_bld (date := date) hA hk hr4 hm hc h1 h2 ht hlen
  have hA5 := hA.1
  have hm' : 0 ≤ a_many A r0 ∧ a_many A r0 ≤ 9 := ⟨by omega, hm.2⟩
  have hlg := hA.2.2 (10 * r0 + g_from A c r0 r1) (by omega) (by omega)
  have hlg : 0 ≤ a_long A r0 (g_from A c r0 r1) ∧ a_long A r0 (g_from A c r0 r1) ≤ 20 := hlg
  have h3 := hv.2.2.1 r0 (g_from A c r0 r1) hr4.1 hr4.2 hf.1 hf.2
  have hlast : c ≠ 3 → g_from A c r0 r1 = a_many A r0 - 1 := fun h => by unfold g_from; rw [if_neg h]
  have hrl := a_row_len A r0 (g_from A c r0 r1)
  have hmv : c = 2 → r1.toNat < (a_row A r0 (g_from A c r0 r1)).length ∧ r2.toNat < (a_row A r0 (g_from A c r0 r1)).length := by
    intro h
    unfold g_there at ht
    rw [if_neg (by omega), if_neg (by omega), if_pos h] at ht
    have ht : (if a_long A r0 (a_many A r0 - 1) ≤ r1 then false else !decide (a_long A r0 (a_many A r0 - 1) ≤ r2)) = true := ht
    rw [hrl, hlast (by omega)]
    have := h2 (Or.inr h)
    split at ht
    · cases ht
    · simp at ht
      omega
  have hids : ro_ch c (a_row A r0 (g_from A c r0 r1)) (g_ids (A 5) 0 ws.length) r1 r2 = ro_ch c (a_row A r0 (g_from A c r0 r1)) (g_ids (A 5) 0 (if c = 0 then ws.length else 0)) r1 r2 := by
    by_cases h0 : c = 0
    · rw [if_pos h0]
    · unfold ro_ch
      rw [if_neg h0, if_neg h0]
  rw [hids] at hb
  have ro := ro_ch_ok (c := c) (r1 := r1) (r2 := r2) (n := A 5) (k := if c = 0 then ws.length else 0) hc hmv (fun x hx => (h3.1.2 x hx).1.2) h3.2 (by rw [hrl]; omega) (fun h => by rw [if_pos h, hrl, hlast (by omega)]; have := hlen h; have := hlast (by omega); rw [this] at hlg; omega) (fun h => if_neg h)
  refine ⟨hb.val hv hr hm.2 (by split <;> omega) (by split; exact hk (by assumption); omega) ro.1 (fun x hx => ?_) ro.2.2.1 ro.2.2.2 hws hdate, hb.1, hb.2.2.2.2.2.2 0 (by unfold g_un; omega), fun e he0 he1 => hb.many (by omega) hm' hr4 ⟨he0, he1⟩⟩
  rcases ro.2.1 x hx with h | h
  · obtain ⟨q1, q2⟩ := h3.1.2 x h
    exact Or.inl ⟨q1.1, q1.2, q2⟩
  · exact Or.inr h
