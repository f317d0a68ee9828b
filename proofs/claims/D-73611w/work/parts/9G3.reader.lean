set_option maxRecDepth 100000
/-! the component: a reader's state; what lies at a place; letters, digits -/
/-- next place, where the token begins, its number, its piece, its word, the fault so far, how many words were wrong, what is made -/
abbrev rS : Type := Int × Int × Int × Option Nat × Option Nat × Option Nat × Int × Option Nat
def rd_ob (k xt : Nat) (L : Int) (r : rS) : pw_O := (k, [va_rf (some xt), .int (iI L), .int (iI r.1), .int (iI r.2.1), .int (iI r.2.2.1), va_rf r.2.2.2.1, va_rf r.2.2.2.2.1, va_rf r.2.2.2.2.2.1, .int (iI r.2.2.2.2.2.2.1), va_rf r.2.2.2.2.2.2.2])
def c_tp (h : pw_H) (xt : Nat) (T : Nat → Int) : Prop := h xt = some (1001, (List.range 600).map (fun i => Value.int (iI (T i))))
theorem c_and255 : iI 255 = 255 := by decide
section
variable {E : pw_E} {d : Nat} {w : pw_W} {rd xt k : Nat} {T : Nat → Int} {L : Int} {r : rS}
theorem rd_at_ok {p : Nat} {K : Int32 → pw_W → Prop} (hd : 1 ≤ d) (hk : k = 3 ∨ k = 8 ∨ k = 9) (h : w.1 rd = some (rd_ob k xt L r)) (ht : c_tp w.1 xt T) (hL : 0 ≤ L ∧ L ≤ 600) (hp : p ≤ 1000) (H : K (iI (c_at T L p)) w) : pw_Cl E m_X3_at d [va_rf (some rd), .int (iI (p : Nat))] w (c_i K) := by
  replace hd := pw_d1 hd; obtain ⟨e, rfl, hd⟩ := hd
  refine e_X3_at _ _ (s_X3_at_K_0 hk _ _ ⟨rd, _, _, rfl, h, rfl, ?_⟩)
  have ll : (iI L ≤ iI (p : Nat)) = (L ≤ (p : Nat)) := iI_le (rI_small (by omega) (by omega)) (rI_small (by omega) (by omega))
  unfold c_at at H
  by_cases c : L ≤ (p : Nat)
  · rw [if_pos c] at H
    exact ifT (by rw [ll]; exact c) ⟨_, rfl, H⟩
  · rw [if_neg c] at H
    refine ifF (by rw [ll]; exact c) ⟨rd, _, _, rfl, h, rfl, xt, _, iI (T p), rfl, ht, iI_n0 (by omega), ?_, ⟨_, rfl, ?_⟩⟩
    · rw [iI_nn (by omega), List.getElem?_map, List.getElem?_range (by omega)]
      rfl
    · rw [iI_of] at H
      exact H
theorem rd_isLetter_ok {x : Int} {K : Bool → pw_W → Prop} (hd : 1 ≤ d) (hx : rI x) (H : K (decide (97 ≤ x ∧ x ≤ 122)) w) : pw_Cl E m_X3_isLetter d [.int (iI x)] w (c_z K) := by
  replace hd := pw_d1 hd; obtain ⟨e, rfl, hd⟩ := hd
  have l1 : (iI x < 97) = (x < 97) := iI_lt (b := 97) hx (rI_small (by omega) (by omega))
  have l2 : ((122 : Int32) < iI x) = (122 < x) := iI_lt (a := 122) (rI_small (by omega) (by omega)) hx
  refine e_X3_isLetter _ (s_X3_isLetter_0 _ ?_)
  by_cases c1 : x < 97
  · rw [decide_eq_false (by omega)] at H
    exact ifT (by rw [l1]; exact c1) ⟨false, rfl, H⟩
  refine ifF (by rw [l1]; exact c1) ?_
  by_cases c2 : 122 < x
  · rw [decide_eq_false (by omega)] at H
    exact ifT (by rw [l2]; exact c2) ⟨false, rfl, H⟩
  · rw [decide_eq_true (by omega)] at H
    exact ifF (by rw [l2]; exact c2) ⟨true, rfl, H⟩
theorem rd_isDigit_ok {x : Int} {K : Bool → pw_W → Prop} (hd : 1 ≤ d) (hx : rI x) (H : K (decide (48 ≤ x ∧ x ≤ 57)) w) : pw_Cl E m_X3_isDigit d [.int (iI x)] w (c_z K) := by
  replace hd := pw_d1 hd; obtain ⟨e, rfl, hd⟩ := hd
  have l1 : (iI x < 48) = (x < 48) := iI_lt (b := 48) hx (rI_small (by omega) (by omega))
  have l2 : ((57 : Int32) < iI x) = (57 < x) := iI_lt (a := 57) (rI_small (by omega) (by omega)) hx
  refine e_X3_isDigit _ (s_X3_isDigit_0 _ ?_)
  by_cases c1 : x < 48
  · rw [decide_eq_false (by omega)] at H
    exact ifT (by rw [l1]; exact c1) ⟨false, rfl, H⟩
  refine ifF (by rw [l1]; exact c1) ?_
  by_cases c2 : 57 < x
  · rw [decide_eq_false (by omega)] at H
    exact ifT (by rw [l2]; exact c2) ⟨false, rfl, H⟩
  · rw [decide_eq_true (by omega)] at H
    exact ifF (by rw [l2]; exact c2) ⟨true, rfl, H⟩
theorem rd_here_ok {K : Int32 → pw_W → Prop} (hd : 1 ≤ d) (hk : k = 3 ∨ k = 8 ∨ k = 9) (h : w.1 rd = some (rd_ob k xt L r)) (H : K (iI r.2.1) w) : pw_Cl E m_X3_here d [va_rf (some rd)] w (c_i K) := by
  replace hd := pw_d1 hd; obtain ⟨e, rfl, hd⟩ := hd
  exact e_X3_here _ (s_X3_here_K_0 hk _ ⟨rd, _, _, rfl, h, rfl, _, rfl, H⟩)
theorem rd_wrongs_ok {K : Int32 → pw_W → Prop} (hd : 1 ≤ d) (hk : k = 3 ∨ k = 8 ∨ k = 9) (h : w.1 rd = some (rd_ob k xt L r)) (H : K (iI r.2.2.2.2.2.2.1) w) : pw_Cl E m_X3_wrongs d [va_rf (some rd)] w (c_i K) := by
  replace hd := pw_d1 hd; obtain ⟨e, rfl, hd⟩ := hd
  exact e_X3_wrongs _ (s_X3_wrongs_K_0 hk _ ⟨rd, _, _, rfl, h, rfl, _, rfl, H⟩)
/-- where the piece of a sort stands among the statics -/
def k_pc (E : pw_E) (sort : Int) (x : Option Nat) : Prop := E.2.2.2.2 (if sort = 0 then 12 else if sort = 2 then 13 else if sort = 1 then 14 else if sort = 3 then 15 else 16) = va_rf x
end
