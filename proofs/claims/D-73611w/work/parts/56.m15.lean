set_option maxRecDepth 100000
/-! the twin: a word filled up to four letters -/
def s_wide : Nat → Int → Int
  | 0, x => x
  | f + 1, x => if 19683 ≤ x then x else s_wide f (x * 27)
section
variable {E : pw_E} {w0 : pw_W} {m d : Nat} {S : tw_S}
theorem m_widened_ok {x : Int} {K : Int → tw_S → Prop} (hm : pw_base E ≤ m) (hd : 1 ≤ d) (hx : 1 ≤ x ∧ x < 531441) (H : K (s_wide 4 x) S) : pw_Cl E m_X2_widened d [.int (iI x)] (tw w0 m S) (c_i (t_i w0 m K)) := by
  obtain ⟨e, rfl, -⟩ := pw_d1 hd
  refine e_X2_widened _ (t_X2_widened_0 hm _ ?_)
  have loop : ∀ (f : Nat) (x : Int), 1 ≤ x ∧ x < 531441 → (19683 ≤ x * 27 ^ f) → K (s_wide f x) S → pw_Wp E m_X2_widened (e + 1) 2 [none, some (.int (iI x))] [] (tw w0 m S) (c_i (t_i w0 m K)) := by
    intro f
    induction f with
    | zero =>
      intro x hx hf H
      refine t_X2_widened_2 hm _ ⟨rI_small (by omega) (by omega), ?_⟩
      rw [if_pos (by omega)]
      exact ⟨_, rfl, _, S, rfl, rfl, H⟩
    | succ f ih =>
      intro x hx hf H
      refine t_X2_widened_2 hm _ ⟨rI_small (by omega) (by omega), ?_⟩
      unfold s_wide at H
      by_cases h : 19683 ≤ x
      · rw [if_pos h]
        rw [if_pos h] at H
        exact ⟨_, rfl, _, S, rfl, rfl, H⟩
      · rw [if_neg h]
        rw [if_neg h] at H
        refine ih _ ⟨by omega, by omega⟩ ?_ H
        rw [Int.mul_assoc, show (27 : Int) * 27 ^ f = 27 ^ (f + 1) by rw [Int.pow_succ, Int.mul_comm]]
        exact hf
  exact loop 4 x hx (by omega) H
end
