set_option maxRecDepth 100000
/-! the twin: of a version: pairs that are turned -/
def a_turned (A : Nat → Int) (d v : Int) : Int := if v ≤ 0 then 0 else upto (a_long A d (v - 1)).toNat (fun j (n : Int) => upto j (fun i (n : Int) => n + (if a_place A d v (a_tok A d (v - 1) i) = -1 then 0 else if a_place A d v (a_tok A d (v - 1) j) = -1 then 0 else if a_place A d v (a_tok A d (v - 1) i) ≤ a_place A d v (a_tok A d (v - 1) j) then 0 else 1)) n) 0
section
variable {E : pw_E} {w0 : pw_W} {m d : Nat} {S : tw_S}
theorem m_turned_ok {a v : Int} {K : Int → tw_S → Prop} (hm : pw_base E ≤ m) (hA : a_ok (S.2.2 9) (S.1 24)) (hd : 5 ≤ d) (ha : 0 ≤ a ∧ a < 4) (hv : 0 ≤ v ∧ v < a_many (S.2.2 9) a) (H : K (a_turned (S.2.2 9) a v) S) : pw_Cl E m_X2_turned d [va_rf (some m), .int (iI a), .int (iI v)] (tw w0 m S) (c_i (t_i w0 m K)) := by
  obtain ⟨e, rfl, he⟩ := pw_d1 hd
  have hn := hA.2.1
  have hv10 := (hA.2.2.1 a ha.1 ha.2).2
  refine e_X2_turned _ _ _ (t_X2_turned_0 hm _ _ ?_)
  unfold a_turned at H
  by_cases h0 : v ≤ 0
  · rw [if_pos h0] at H
    refine t_X2_turned_5 hm _ _ _ _ ⟨rI_small (by omega) (by omega), ?_⟩
    rw [if_pos h0]
    exact ⟨_, rfl, _, S, rfl, rfl, H⟩
  · rw [if_neg h0] at H
    have hl := hA.2.2.2.1 a (v - 1) ha.1 ha.2 (by omega) (by omega)
    have hl2 := hA.2.2.2.1 a v ha.1 ha.2 hv.1 (by omega)
    refine loop_up (n := (a_long (S.2.2 9) a (v - 1)).toNat) (P := fun j => pw_Wp E m_X2_turned (e + 1) 5 [some (va_rf (some m)), some (.int (iI a)), some (.int (iI v)), some (.int (iI (upto j (fun j (n : Int) => upto j (fun i (n : Int) => n + (if a_place (S.2.2 9) a v (a_tok (S.2.2 9) a (v - 1) i) = -1 then 0 else if a_place (S.2.2 9) a v (a_tok (S.2.2 9) a (v - 1) j) = -1 then 0 else if a_place (S.2.2 9) a v (a_tok (S.2.2 9) a (v - 1) i) ≤ a_place (S.2.2 9) a v (a_tok (S.2.2 9) a (v - 1) j) then 0 else 1)) n) 0))), some (.int (iI j)), none, none, none] [] (tw w0 m S) _) ?_ ?_ 0 (by omega)
    · intro j hj ih
      rw [upto_s] at ih
      generalize upto j (fun j (n : Int) => upto j (fun i (n : Int) => n + (if a_place (S.2.2 9) a v (a_tok (S.2.2 9) a (v - 1) i) = -1 then 0 else if a_place (S.2.2 9) a v (a_tok (S.2.2 9) a (v - 1) j) = -1 then 0 else if a_place (S.2.2 9) a v (a_tok (S.2.2 9) a (v - 1) i) ≤ a_place (S.2.2 9) a v (a_tok (S.2.2 9) a (v - 1) j) then 0 else 1)) n) 0 = c at ih ⊢
      refine t_X2_turned_5 hm _ _ _ _ ⟨rI_small (by omega) (by omega), ?_⟩
      rw [if_neg h0]
      refine m_longOf_ok hm (by omega) ha ⟨by omega, by omega⟩ ⟨rI_small (by omega) (by omega), rI_small (by omega) (by omega), ?_⟩
      rw [if_neg (by omega)]
      refine loop_up (n := j) (P := fun i => pw_Wp E m_X2_turned (e + 1) 25 [some (va_rf (some m)), some (.int (iI a)), some (.int (iI v)), some (.int (iI (upto i (fun i (n : Int) => n + (if a_place (S.2.2 9) a v (a_tok (S.2.2 9) a (v - 1) i) = -1 then 0 else if a_place (S.2.2 9) a v (a_tok (S.2.2 9) a (v - 1) j) = -1 then 0 else if a_place (S.2.2 9) a v (a_tok (S.2.2 9) a (v - 1) i) ≤ a_place (S.2.2 9) a v (a_tok (S.2.2 9) a (v - 1) j) then 0 else 1)) c))), some (.int (iI j)), some (.int (iI i)), none, none] [] (tw w0 m S) _) ?_ ?_ 0 (by omega)
      · intro i hi ii
        rw [upto_s] at ii
        have t1 := hA.2.2.2.2.1 a (v - 1) i ha.1 ha.2 (by omega) (by omega) (by omega) (by omega)
        have t2 := hA.2.2.2.2.1 a (v - 1) j ha.1 ha.2 (by omega) (by omega) (by omega) (by omega)
        have p1 := a_place_r (S.2.2 9) a v (a_tok (S.2.2 9) a (v - 1) i)
        have p2 := a_place_r (S.2.2 9) a v (a_tok (S.2.2 9) a (v - 1) j)
        refine t_X2_turned_25 hm _ _ _ _ _ ⟨rI_small (by omega) (by omega), rI_small (by omega) (by omega), ?_⟩
        rw [if_neg (by omega)]
        refine m_tokenAt_ok hm (by omega) ha ⟨by omega, by omega⟩ ⟨by omega, by omega⟩ (m_placeOf_ok hm hA (by omega) ha hv (rI_small (by omega) (by omega)) ?_)
        refine m_tokenAt_ok hm (by omega) ha ⟨by omega, by omega⟩ ⟨by omega, by omega⟩ (m_placeOf_ok hm hA (by omega) ha hv (rI_small (by omega) (by omega)) ⟨rI_small (by omega) (by omega), ?_⟩)
        by_cases h1 : a_place (S.2.2 9) a v (a_tok (S.2.2 9) a (v - 1) i) = -1
        · rw [if_pos h1]
          rw [if_pos h1] at ii
          exact ii
        · rw [if_neg h1]
          rw [if_neg h1] at ii
          refine ⟨rI_small (by omega) (by omega), ?_⟩
          by_cases h2 : a_place (S.2.2 9) a v (a_tok (S.2.2 9) a (v - 1) j) = -1
          · rw [if_pos h2]
            rw [if_pos h2] at ii
            exact ii
          · rw [if_neg h2]
            rw [if_neg h2] at ii
            refine ⟨rI_small (by omega) (by omega), rI_small (by omega) (by omega), ?_⟩
            by_cases h3 : a_place (S.2.2 9) a v (a_tok (S.2.2 9) a (v - 1) i) ≤ a_place (S.2.2 9) a v (a_tok (S.2.2 9) a (v - 1) j)
            · rw [if_pos h3]
              rw [if_pos h3] at ii
              exact ii
            · rw [if_neg h3]
              rw [if_neg h3] at ii
              exact ii
      · refine t_X2_turned_25 hm _ _ _ _ _ ⟨rI_small (by omega) (by omega), rI_small (by omega) (by omega), ?_⟩
        rw [if_pos (by omega)]
        exact ih
    · refine t_X2_turned_5 hm _ _ _ _ ⟨rI_small (by omega) (by omega), ?_⟩
      rw [if_neg h0]
      refine m_longOf_ok hm (by omega) ha ⟨by omega, by omega⟩ ⟨rI_small (by omega) (by omega), rI_small (by omega) (by omega), ?_⟩
      rw [if_pos (by omega)]
      exact ⟨_, rfl, _, S, rfl, rfl, H⟩
end
