set_option maxRecDepth 100000
/-! the twin: how often a word is in a version; a word filled up to four letters -/
def a_times (A : Nat → Int) (d v w : Int) : Int := upto (a_long A d v).toNat (fun p (n : Int) => n + (if a_wordAt A d v p = w then 1 else 0)) 0
section
variable {E : pw_E} {w0 : pw_W} {m d : Nat} {S : tw_S}
theorem m_timesIn_ok {a v w : Int} {K : Int → tw_S → Prop} (hm : pw_base E ≤ m) (hA : a_ok (S.2.2 9) (S.1 24)) (hd : 4 ≤ d) (ha : 0 ≤ a ∧ a < 4) (hv : 0 ≤ v ∧ v < a_many (S.2.2 9) a) (hw : rI w) (H : K (a_times (S.2.2 9) a v w) S) : pw_Cl E m_X2_timesIn d [va_rf (some m), .int (iI a), .int (iI v), .int (iI w)] (tw w0 m S) (c_i (t_i w0 m K)) := by
  obtain ⟨e, rfl, he⟩ := pw_d1 hd
  have hv10 := (hA.2.2.1 a ha.1 ha.2).2
  have hl := hA.2.2.2.1 a v ha.1 ha.2 hv.1 (by omega)
  refine e_X2_timesIn _ _ _ _ (t_X2_timesIn_0 hm _ _ _ (loop_up (n := (a_long (S.2.2 9) a v).toNat) (P := fun k => pw_Wp E m_X2_timesIn (e + 1) _ [some (va_rf (some m)), some (.int (iI a)), some (.int (iI v)), some (.int (iI w)), some (.int (iI (upto k (fun p (n : Int) => n + (if a_wordAt (S.2.2 9) a v p = w then 1 else 0)) 0))), some (.int (iI k))] [] (tw w0 m S) _) ?_ ?_ 0 (by omega)))
  · intro k hk ih
    rw [upto_s] at ih
    refine t_X2_timesIn_6 hm _ _ _ _ _ (m_longOf_ok hm (by omega) ha ⟨hv.1, by omega⟩ ⟨rI_small (by omega) (by omega), rI_small (by omega) (by omega), ?_⟩)
    rw [if_neg (by omega)]
    refine m_wordAt_ok hm hA (by omega) ha hv ⟨by omega, by omega⟩ ⟨a_wordAt_r hA ha hv ⟨by omega, by omega⟩, hw, ?_⟩
    by_cases h : a_wordAt (S.2.2 9) a v k = w
    · rw [if_pos h]
      rw [if_pos h] at ih
      exact ih
    · rw [if_neg h]
      rw [if_neg h] at ih
      exact ih
  · refine t_X2_timesIn_6 hm _ _ _ _ _ (m_longOf_ok hm (by omega) ha ⟨hv.1, by omega⟩ ⟨rI_small (by omega) (by omega), rI_small (by omega) (by omega), ?_⟩)
    rw [if_pos (by omega)]
    exact ⟨_, rfl, _, S, rfl, rfl, H⟩
end
