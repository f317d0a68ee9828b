set_option maxRecDepth 100000
/-! the component: rows put in, cut out, moved -/
def r_puts (row : List Nat) (place first many : Nat) : List Nat := row.take place ++ ((List.range many).map (fun k => first + k) ++ row.drop place)
def r_cuts (row : List Nat) (place many : Nat) : List Nat := row.take place ++ row.drop (place + many)
def r_moves (row : List Nat) (i j : Nat) : List Nat := r_puts (r_cuts row i 1) j (row.getD i 0) 1
theorem r_puts_len {row : List Nat} {place first many : Nat} (h : place ≤ row.length) : (r_puts row place first many).length = row.length + many := by
  unfold r_puts
  simp
  omega
theorem r_puts_at {row : List Nat} {place first many j : Nat} (h : place ≤ row.length) : (r_puts row place first many)[j]? = if j < place then row[j]? else if j < place + many then some (first + (j - place)) else row[j - many]? := by
  unfold r_puts
  by_cases q : j < place
  · rw [if_pos q, List.getElem?_append_left (by simp; omega), List.getElem?_take_of_lt q]
  · rw [if_neg q, List.getElem?_append_right (by simp; omega)]
    have hl : (row.take place).length = place := by simp; omega
    rw [hl]
    by_cases z : j < place + many
    · rw [if_pos z, List.getElem?_append_left (by simp; omega), List.getElem?_map, List.getElem?_range (by omega)]
      rfl
    · rw [if_neg z, List.getElem?_append_right (by simp; omega), List.getElem?_drop]
      simp
      congr 1
      omega
theorem r_cuts_len {row : List Nat} {place many : Nat} (h : place + many ≤ row.length) : (r_cuts row place many).length = row.length - many := by
  unfold r_cuts
  simp
  omega
theorem r_cuts_at {row : List Nat} {place many j : Nat} (h : place + many ≤ row.length) : (r_cuts row place many)[j]? = if j < place then row[j]? else row[j + many]? := by
  unfold r_cuts
  have hl : (row.take place).length = place := by simp; omega
  by_cases q : j < place
  · rw [if_pos q, List.getElem?_append_left (by omega), List.getElem?_take_of_lt q]
  · rw [if_neg q, List.getElem?_append_right (by omega), hl, List.getElem?_drop]
    congr 1
    omega
section
variable {E : pw_E} {d : Nat} {w : pw_W} {row : List Nat} {r : Nat}
theorem n_ar_ints {n : Nat} {g : Nat → Int} {row' : List Nat} (hl : row'.length = n) (h : ∀ (j x : Nat), j < n → row'[j]? = some x → g j = x) : c_ints (n_ar w n g).1 w.2.1 row' := by
  have e : (n_ar w n g).1 w.2.1 = some (1000, (List.range n).map (fun j => Value.int (iI (g j)))) := pw_new_1 _ _ _
  show _ = _
  rw [e]
  congr 2
  apply List.ext_getElem?
  intro i
  by_cases q : i < n
  · obtain ⟨x, hx⟩ := dc_get (l := row') (i := i) (by omega)
    rw [List.getElem?_map, List.getElem?_range q, List.getElem?_map, hx]
    show some (Value.int (iI (g i))) = some (Value.int (iI (x : Nat)))
    rw [h i x q hx]
  · rw [List.getElem?_eq_none (by simp; omega), List.getElem?_eq_none (by simp; omega)]
theorem cr_copyI {n : Nat} {K : Option Nat → pw_W → Prop} (hd : 2 ≤ d) (hw : wf E w) (hr : c_ints w.1 r row) (hn : n ≤ 100000) (hl : row.length ≤ 100000) (H : K (some w.2.1) (n_ar w n (fun j => (row.getD j 0 : Nat)))) : pw_Cl E m_J10_copyOf_4 d [va_rf (some r), .int (iI (n : Nat))] w (c_r K) := by
  replace hd := pw_d1 hd; obtain ⟨e, rfl, hd⟩ := hd
  have hr0 : w.1 r = some (1000, row.map (fun j => Value.int (iI (j : Nat)))) := hr
  refine e_J10_copyOf_4 _ _ (s_J10_copyOf_4_0 _ _ (dq_len hr ?_))
  by_cases z : n = row.length
  · refine ifT (by rw [z]) ?_
    have ew : n_ar w n (fun j => (row.getD j 0 : Nat)) = pw_new w (1000, row.map (fun j => Value.int (iI (j : Nat)))) (row.map (fun j => Value.int (iI (j : Nat)))).length := by
      unfold n_ar
      rw [List.length_map, z]
      congr 2
      apply List.ext_getElem?
      intro i
      by_cases q : i < row.length
      · obtain ⟨x, hx⟩ := dc_get (l := row) (i := i) q
        rw [List.getElem?_map, List.getElem?_range q, List.getElem?_map, hx]
        show some (Value.int (iI ((row.getD i 0 : Nat) : Int))) = _
        rw [dc_getD hx]
        rfl
      · rw [List.getElem?_eq_none (by simp; omega), List.getElem?_eq_none (by simp; omega)]
    rw [ew] at H
    exact ⟨r, _, rfl, hr0, fun v hv => (by obtain ⟨j, -, rfl⟩ := List.mem_map.mp hv; rfl), Or.inr ⟨_, 1000, _, rfl, pw_new_1 _ _ _, c_canI⟩, ⟨_, rfl, H⟩⟩
  · refine ifF (by rw [iI_eqn (by omega) (by omega)]; exact z) ⟨iI_n0 (by omega), by rw [iI_nn (by omega)]; omega, ?_⟩
    rw [iI_nn (by omega), n_ar_0]
    have c1 := n_ar_cx hw n (fun _ => 0)
    refine dq_len (c1.at hr) ?_
    rw [iI_min (by omega) (by omega)]
    refine ⟨r, w.2.1, 0, 0, _, _, _, _, rfl, rfl, rfl, rfl, rfl, fun q => by omega, c1.at hr, pw_new_1 _ _ _, hw.b, by decide, by decide, iI_n0 (by omega), ?_, ?_, ?_, ?_⟩
    · rw [iI_nn (by omega), List.length_map]
      show 0 + _ ≤ _
      omega
    · rw [iI_nn (by omega), List.length_map, List.length_range]
      show 0 + _ ≤ _
      omega
    · intro i hi v hv
      have hv : (row.map (fun j => Value.int (iI (j : Nat))))[0 + i]? = some v := hv
      rw [Nat.zero_add, List.getElem?_map] at hv
      cases hx : row[i]? with
      | none => rw [hx] at hv; cases hv
      | some x =>
        rw [hx] at hv
        cases hv
        exact ⟨rfl, fun b e => (by cases e)⟩
    · rw [iI_nn (show min n row.length ≤ 1000000000 by omega)]
      have ew : pw_up (n_ar w n (fun _ => 0)) w.2.1 (1000 + 0, pw_cpy (row.map (fun j => Value.int (iI (j : Nat)))) ((List.range n).map (fun _ => Value.int (iI 0))) (0 : Int32).toNatClampNeg (0 : Int32).toNatClampNeg (min n row.length)) = n_ar w n (fun j => (row.getD j 0 : Nat)) := by
        unfold n_ar
        rw [pw_up_new]
        congr 2
        apply List.ext_getElem?
        intro i
        have h0 : (0 : Int32).toNatClampNeg = 0 := rfl
        rw [h0, pw_cpy_get (by simp; omega) (by simp; omega), List.getElem?_map, List.getElem?_map, List.getElem?_map]
        by_cases q : i < n
        · rw [List.getElem?_range q]
          by_cases y : i < row.length
          · obtain ⟨x, hx⟩ := dc_get (l := row) (i := i) y
            rw [if_pos (by omega), show 0 + (i - 0) = i by omega, hx]
            show some (Value.int (iI ((x : Nat) : Int))) = some (Value.int (iI ((row.getD i 0 : Nat) : Int)))
            rw [dc_getD hx]
          · rw [if_neg (by omega)]
            show some (Value.int (iI 0)) = some (Value.int (iI ((row.getD i 0 : Nat) : Int)))
            rw [List.getD_eq_getElem?_getD, List.getElem?_eq_none (by omega)]
            rfl
        · rw [if_neg (by omega), List.getElem?_eq_none (by simp; omega)]
          rfl
      exact ⟨_, rfl, by rw [ew]; exact H⟩
end
