set_option maxRecDepth 100000
/-! the twin: what is asked of a document -/
def a_ofDoc (A : Nat → Int) (n d q : Int) : Int := if a_isDoc A d = true then (if q = 1 then a_many A d else if q = 2 then a_passN A n d else if q = 3 then a_passL A n d else if q = 4 then a_kept A n d else if q = 5 then a_returns A d else -2) else -2
section
variable {E : pw_E} {w0 : pw_W} {m d : Nat} {S : tw_S}
theorem m_ofDoc_ok {a q : Int} {K : Int → tw_S → Prop} (hm : pw_base E ≤ m) (hA : a_ok (S.2.2 9) (S.1 24)) (hF : a_full (S.2.2 9)) (hd : 8 ≤ d) (ha : rI a) (hq : rI q) (H : K (a_ofDoc (S.2.2 9) (S.1 24) a q) S) : pw_Cl E m_X2_ofDoc d [va_rf (some m), .int (iI a), .int (iI q)] (tw w0 m S) (c_i (t_i w0 m K)) := by
  obtain ⟨e, rfl, he⟩ := pw_d1 hd
  have h0 := hA.1
  refine e_X2_ofDoc _ _ _ (t_X2_ofDoc_0 hm _ _ (m_isDoc_ok hm hA (by omega) ha ?_))
  unfold a_ofDoc at H
  cases hb : a_isDoc (S.2.2 9) a with
  | false =>
    rw [if_neg (by decide)]
    rw [hb, if_neg (by decide)] at H
    exact ⟨_, rfl, _, S, rfl, rfl, H⟩
  | true =>
    rw [if_pos rfl]
    rw [hb, if_pos rfl] at H
    have hb := of_decide_eq_true hb
    have ha4 : 0 ≤ a ∧ a < 4 := ⟨hb.1, by omega⟩
    have hf := hF a hb.1 (by omega)
    refine ⟨hq, ?_⟩
    by_cases h1 : q = 1
    · rw [if_pos h1]
      rw [if_pos h1] at H
      exact m_versions_ok hm (by omega) ha4 ⟨_, rfl, _, S, rfl, rfl, H⟩
    · rw [if_neg h1]
      rw [if_neg h1] at H
      refine ⟨hq, ?_⟩
      by_cases h2 : q = 2
      · rw [if_pos h2]
        rw [if_pos h2] at H
        refine ⟨hq, ?_⟩
        rw [if_neg (by omega)]
        exact m_passages_ok (g := false) hm hA (by omega) ha4 ⟨_, rfl, _, S, rfl, rfl, H⟩
      · rw [if_neg h2]
        rw [if_neg h2] at H
        refine ⟨hq, ?_⟩
        by_cases h3 : q = 3
        · rw [if_pos h3]
          rw [if_pos h3] at H
          refine ⟨hq, ?_⟩
          rw [if_pos h3]
          exact m_passages_ok (g := true) hm hA (by omega) ha4 ⟨_, rfl, _, S, rfl, rfl, H⟩
        · rw [if_neg h3]
          rw [if_neg h3] at H
          refine ⟨hq, ?_⟩
          by_cases h4 : q = 4
          · rw [if_pos h4]
            rw [if_pos h4] at H
            exact m_keptIn_ok hm hA (by omega) ha4 ⟨_, rfl, _, S, rfl, rfl, H⟩
          · rw [if_neg h4]
            rw [if_neg h4] at H
            refine ⟨hq, ?_⟩
            by_cases h5 : q = 5
            · rw [if_pos h5]
              rw [if_pos h5] at H
              exact m_returns_ok hm hA (by omega) ha4 hf ⟨_, rfl, _, S, rfl, rfl, H⟩
            · rw [if_neg h5]
              rw [if_neg h5] at H
              exact ⟨_, rfl, _, S, rfl, rfl, H⟩
end
