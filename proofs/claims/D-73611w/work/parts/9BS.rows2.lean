set_option maxRecDepth 100000
/-! the component: puts, cuts, moves -/
section
variable {E : pw_E} {d : Nat} {w : pw_W} {row : List Nat} {r : Nat}
theorem cr_puts_ok {place first many : Nat} {K : Option Nat → pw_W → Prop} (hd : 3 ≤ d) (hw : wf E w) (hr : c_ints w.1 r row) (hl : row.length ≤ 1000) (hp : place ≤ row.length) (hf : first ≤ 1000) (hm : many ≤ 1000) (H : ∀ w', cx E w w' c_no (row.length + many + 4) → w'.2.1 = w.2.1 + 1 → c_ints w'.1 w.2.1 (r_puts row place first many) → K (some w.2.1) w') : pw_Cl E m_X0_puts d [va_rf (some r), .int (iI (place : Nat)), .int (iI (first : Nat)), .int (iI (many : Nat))] w (c_r K) := by
  replace hd := pw_d1 hd; obtain ⟨e, rfl, hd⟩ := hd
  refine e_X0_puts _ _ _ _ (s_X0_puts_0 _ _ _ _ (dq_len hr ?_))
  rw [iI_adn]
  refine cr_copyI (by omega) hw hr (by omega) (by omega) ?_
  have hrg : ∀ g, c_ints (n_ar w (row.length + many) g).1 r row := fun g => (n_ar_cx hw _ g).at hr
  refine dq_len (hrg _) ?_
  have em : iI (row.length : Nat) - 1 = iI ((row.length : Int) - 1) := iI_sub _ 1
  rw [em]
  have l2 : ∀ (f k : Nat) (g : Nat → Int), k + f = many → (∀ j, j < place → g j = (row.getD j 0 : Nat)) → (∀ j, place + many ≤ j → j < row.length + many → g j = (row.getD (j - many) 0 : Nat)) → (∀ j, j < k → g (place + j) = ((first + j : Nat) : Int)) → pw_Wp E m_X0_puts (e + 1) 42 [none, some (.int (iI (place : Nat))), some (.int (iI (first : Nat))), some (.int (iI (many : Nat))), some (va_rf (some w.2.1)), some (.int (iI (k : Nat)))] [] (n_ar w (row.length + many) g) (c_r K) := by
    intro f
    induction f with
    | zero =>
      intro k g hk g1 g2 g3
      refine s_X0_puts_42 _ _ _ _ _ (ifT (by rw [iI_len (by omega) (by omega)]; omega) ⟨_, rfl, H _ (n_ar_cx hw _ _) rfl (n_ar_ints (r_puts_len hp) (fun j x hj hx => ?_))⟩)
      rw [r_puts_at hp] at hx
      by_cases q : j < place
      · rw [if_pos q] at hx
        rw [g1 j q, dc_getD hx]
      · rw [if_neg q] at hx
        by_cases z : j < place + many
        · rw [if_pos z] at hx
          cases hx
          have := g3 (j - place) (by omega)
          rw [show place + (j - place) = j by omega] at this
          exact this
        · rw [if_neg z] at hx
          rw [g2 j (by omega) hj, dc_getD hx]
    | succ f ih =>
      intro k g hk g1 g2 g3
      refine s_X0_puts_42 _ _ _ _ _ (ifF (by rw [iI_len (by omega) (by omega)]; omega) ?_)
      rw [iI_adn, iI_adn, iI_ad1]
      refine n_ar_st hw (by omega) (by omega) (ih (k + 1) _ (by omega) (fun j hj => ?_) (fun j hj1 hj2 => ?_) (fun j hj => ?_))
      · show (if j = place + k then _ else _) = _
        rw [if_neg (by omega)]
        exact g1 j hj
      · show (if j = place + k then _ else _) = _
        rw [if_neg (by omega)]
        exact g2 j hj1 hj2
      · show (if place + j = place + k then _ else _) = _
        by_cases q : j = k
        · rw [if_pos (by omega), q]
        · rw [if_neg (by omega)]
          exact g3 j (by omega)
  have l1 : ∀ (f k : Nat) (g : Nat → Int), k = place + f → k ≤ row.length → (∀ j, j < k → g j = (row.getD j 0 : Nat)) → (∀ j, k + many ≤ j → j < row.length + many → g j = (row.getD (j - many) 0 : Nat)) → pw_Wp E m_X0_puts (e + 1) 16 [some (va_rf (some r)), some (.int (iI (place : Nat))), some (.int (iI (first : Nat))), some (.int (iI (many : Nat))), some (va_rf (some w.2.1)), some (.int (iI ((k : Int) - 1)))] [] (n_ar w (row.length + many) g) (c_r K) := by
    intro f
    induction f with
    | zero =>
      intro k g hk hk2 g1 g2
      have m1 : (iI ((k : Int) - 1) < iI (place : Nat)) = ((k : Int) - 1 < (place : Nat)) := iI_lt (rI_small (by omega) (by omega)) (rI_small (by omega) (by omega))
      exact s_X0_puts_16 _ _ _ _ _ _ (ifT (by rw [m1]; omega) (l2 many 0 g (by omega) (fun j hj => g1 j (by omega)) (fun j hj1 hj2 => g2 j (by omega) hj2) (fun j hj => by omega)))
    | succ f ih =>
      intro k g hk hk2 g1 g2
      have m1 : (iI ((k : Int) - 1) < iI (place : Nat)) = ((k : Int) - 1 < (place : Nat)) := iI_lt (rI_small (by omega) (by omega)) (rI_small (by omega) (by omega))
      have ek : (k : Int) - 1 = ((k - 1 : Nat) : Int) := by omega
      obtain ⟨x, hx⟩ := dc_get (l := row) (i := k - 1) (by omega)
      refine s_X0_puts_16 _ _ _ _ _ _ (ifF (by rw [m1]; omega) ?_)
      rw [ek]
      refine dq_aldi (hrg g) hx hl ?_
      rw [iI_adn]
      have ek2 : iI ((k - 1 : Nat) : Int) + (-1) = iI (((k - 1 : Nat) : Int) - 1) := by
        have : iI ((k - 1 : Nat) : Int) + iI (-1) = iI (((k - 1 : Nat) : Int) + -1) := iI_add _ _
        exact this
      rw [ek2]
      refine n_ar_st hw (by omega) (by omega) (ih (k - 1) _ (by omega) (by omega) (fun j hj => ?_) (fun j hj1 hj2 => ?_))
      · show (if j = k - 1 + many then _ else _) = _
        by_cases q : j = k - 1 + many
        · rw [if_pos q]
          have : many = 0 := by omega
          omega
        · rw [if_neg q]
          exact g1 j (by omega)
      · show (if j = k - 1 + many then _ else _) = _
        by_cases q : j = k - 1 + many
        · rw [if_pos q, show j - many = k - 1 by omega, dc_getD hx]
        · rw [if_neg q]
          exact g2 j (by omega) hj2
  exact l1 (row.length - place) row.length _ (by omega) (Nat.le_refl _) (fun j _ => rfl) (fun j h1 h2 => by omega)
theorem cr_cuts_ok {place many : Nat} {K : Option Nat → pw_W → Prop} (hd : 3 ≤ d) (hw : wf E w) (hr : c_ints w.1 r row) (hl : row.length ≤ 1000) (hp : place + many ≤ row.length) (H : ∀ w', cx E w w' c_no (row.length + 4) → w'.2.1 = w.2.1 + 1 → c_ints w'.1 w.2.1 (r_cuts row place many) → K (some w.2.1) w') : pw_Cl E m_X0_cuts d [va_rf (some r), .int (iI (place : Nat)), .int (iI (many : Nat))] w (c_r K) := by
  replace hd := pw_d1 hd; obtain ⟨e, rfl, hd⟩ := hd
  refine e_X0_cuts _ _ _ (s_X0_cuts_0 _ _ _ (dq_len hr ?_))
  have en : iI (row.length : Nat) - iI (many : Nat) = iI ((row.length - many : Nat) : Int) := by
    rw [iI_sub, show (row.length : Int) - many = ((row.length - many : Nat) : Int) by omega]
  rw [en]
  refine cr_copyI (by omega) hw hr (by omega) (by omega) ?_
  have hrg : ∀ g, c_ints (n_ar w (row.length - many) g).1 r row := fun g => (n_ar_cx hw _ g).at hr
  have l1 : ∀ (f k : Nat) (g : Nat → Int), k + f = row.length - many → place ≤ k → (∀ j, j < place → g j = (row.getD j 0 : Nat)) → (∀ j, place ≤ j → j < k → g j = (row.getD (j + many) 0 : Nat)) → pw_Wp E m_X0_cuts (e + 1) 12 [some (va_rf (some r)), none, some (.int (iI (many : Nat))), some (va_rf (some w.2.1)), some (.int (iI (k : Nat)))] [] (n_ar w (row.length - many) g) (c_r K) := by
    intro f
    induction f with
    | zero =>
      intro k g hk hk2 g1 g2
      refine s_X0_cuts_12 _ _ _ _ ⟨w.2.1, 0, _, _, rfl, pw_new_1 _ _ _, rfl, ?_⟩
      rw [iI_ofNat]
      refine ifT (by rw [iI_len (by simp; omega) (by omega)]; simp; omega) ⟨_, rfl, H _ ((n_ar_cx hw _ _).le (by omega)) rfl (n_ar_ints (r_cuts_len hp) (fun j x hj hx => ?_))⟩
      rw [r_cuts_at hp] at hx
      by_cases q : j < place
      · rw [if_pos q] at hx
        rw [g1 j q, dc_getD hx]
      · rw [if_neg q] at hx
        rw [g2 j (by omega) (by omega), dc_getD hx]
    | succ f ih =>
      intro k g hk hk2 g1 g2
      obtain ⟨x, hx⟩ := dc_get (l := row) (i := k + many) (by omega)
      refine s_X0_cuts_12 _ _ _ _ ⟨w.2.1, 0, _, _, rfl, pw_new_1 _ _ _, rfl, ?_⟩
      rw [iI_ofNat]
      refine ifF (by rw [iI_len (by simp; omega) (by omega)]; simp; omega) ?_
      rw [iI_adn, iI_ad1]
      refine dq_aldi (hrg g) hx hl (n_ar_st hw (by omega) (by omega) (ih (k + 1) _ (by omega) (by omega) (fun j hj => ?_) (fun j hj1 hj2 => ?_)))
      · show (if j = k then _ else _) = _
        rw [if_neg (by omega)]
        exact g1 j hj
      · show (if j = k then _ else _) = _
        by_cases q : j = k
        · rw [if_pos q, q, dc_getD hx]
        · rw [if_neg q]
          exact g2 j hj1 (by omega)
  exact l1 (row.length - many - place) place _ (by omega) (Nat.le_refl _) (fun j _ => rfl) (fun j h1 h2 => by omega)
theorem cr_moves_ok {i j : Nat} {K : Option Nat → pw_W → Prop} (hd : 4 ≤ d) (hw : wf E w) (hr : c_ints w.1 r row) (hl : row.length ≤ 1000) (hi : i < row.length) (hj : j < row.length) (hx : ∀ x ∈ row, x ≤ 1000) (H : ∀ w' k, cx E w w' c_no (2 * row.length + 9) → w.2.1 ≤ k → c_ints w'.1 k (r_moves row i j) → K (some k) w') : pw_Cl E m_X0_moves d [va_rf (some r), .int (iI (i : Nat)), .int (iI (j : Nat))] w (c_r K) := by
  replace hd := pw_d1 hd; obtain ⟨e, rfl, hd⟩ := hd
  obtain ⟨x, hxi⟩ := dc_get (l := row) (i := i) hi
  have hx1 := hx x (List.mem_of_getElem? hxi)
  have hc1 : (r_cuts row i 1).length = row.length - 1 := r_cuts_len (by omega)
  refine e_X0_moves _ _ _ (s_X0_moves_0 _ _ _ (dq_aldi hr hxi hl ?_))
  refine cr_cuts_ok (many := 1) (by omega) hw hr hl (by omega) (fun w1 c1 n1 h1 => ?_)
  refine cr_puts_ok (many := 1) (by omega) c1.ok h1 (by omega) (by omega) hx1 (by omega) (fun w2 c2 n2 h2 => ⟨_, rfl, H w2 w1.2.1 ((c1.tr c2).le (by omega)) c1.le1 ?_⟩)
  unfold r_moves
  rw [dc_getD hxi]
  exact h2
end
