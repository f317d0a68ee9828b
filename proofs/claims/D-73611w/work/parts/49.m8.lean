set_option maxRecDepth 100000
/-! the twin: twins -/
theorem q_div0 : ∀ k : Fin 400, Int32.toInt (iI ((k : Nat) : Int) / 10) = ((k : Nat) / 10 : Nat) ∧ Int32.toInt (iI ((k : Nat) : Int) - iI ((k : Nat) : Int) / 10 * 10) = ((k : Nat) % 10 : Nat) := by decide +kernel
theorem q_div {k : Nat} (h : k < 400) : Int32.toInt (iI (k : Int) / 10) = (k / 10 : Nat) := (q_div0 ⟨k, h⟩).1
theorem q_mod {k : Nat} (h : k < 400) : Int32.toInt (iI (k : Int) - iI (k : Int) / 10 * 10) = (k % 10 : Nat) := (q_div0 ⟨k, h⟩).2
/-- are the versions by their places i, j there, and alike -/
def a_twin (A : Nat → Int) (i j : Nat) : Bool := a_isVer A (i / 10 : Nat) (i % 10 : Nat) && (a_isVer A (j / 10 : Nat) (j % 10 : Nat) && a_alike A (i / 10 : Nat) (i % 10 : Nat) (j / 10 : Nat) (j % 10 : Nat))
def a_twins (A : Nat → Int) : Int := upto 40 (fun i n => upto i (fun j (n : Int) => n + (if a_twin A i j = true then 1 else 0)) n) 0
theorem a_isVer_r {A : Nat → Int} {n d v : Int} (hA : a_ok A n) (h : a_isVer A d v = true) : (0 ≤ d ∧ d < 4) ∧ 0 ≤ v ∧ v < a_many A d := by
  unfold a_isVer a_isDoc at h
  rw [Bool.and_eq_true, decide_eq_true_eq, decide_eq_true_eq] at h
  have := hA.1
  omega
section
variable {E : pw_E} {w0 : pw_W} {m d : Nat} {S : tw_S}
theorem m_twins_ok {K : Int → tw_S → Prop} (hm : pw_base E ≤ m) (hA : a_ok (S.2.2 9) (S.1 24)) (hd : 5 ≤ d) (H : K (a_twins (S.2.2 9)) S) : pw_Cl E m_X2_twins d [va_rf (some m)] (tw w0 m S) (c_i (t_i w0 m K)) := by
  obtain ⟨e, rfl, he⟩ := pw_d1 hd
  refine e_X2_twins _ (t_X2_twins_0 hm (loop_up (n := 40) (P := fun k => pw_Wp E m_X2_twins (e + 1) 4 [some (va_rf (some m)), some (.int (iI (upto k (fun i n => upto i (fun j (n : Int) => n + (if a_twin (S.2.2 9) i j = true then 1 else 0)) n) 0))), some (.int (iI k)), none, none] [] (tw w0 m S) _) ?_ ?_ 0 (by omega)))
  · intro k hk ih
    refine t_X2_twins_4 hm _ _ ⟨rI_small (by omega) (by omega), ?_⟩
    rw [if_neg (by omega)]
    rw [upto_s] at ih
    generalize upto k (fun i n => upto i (fun j (n : Int) => n + (if a_twin (S.2.2 9) i j = true then 1 else 0)) n) 0 = c at ih ⊢
    refine loop_up (n := k) (P := fun i => pw_Wp E m_X2_twins (e + 1) 12 [some (va_rf (some m)), some (.int (iI (upto i (fun j (n : Int) => n + (if a_twin (S.2.2 9) k j = true then 1 else 0)) c))), some (.int (iI k)), some (.int (iI i)), none] [] (tw w0 m S) _) ?_ ?_ 0 (by omega)
    · intro i hi ij
      rw [upto_s] at ij
      refine t_X2_twins_12 hm _ _ _ ⟨rI_small (by omega) (by omega), rI_small (by omega) (by omega), ?_⟩
      rw [if_neg (by omega), q_div (by omega), q_mod (by omega), q_div (by omega), q_mod (by omega)]
      have hdef : a_twin (S.2.2 9) k i = (a_isVer (S.2.2 9) (k / 10 : Nat) (k % 10 : Nat) && (a_isVer (S.2.2 9) (i / 10 : Nat) (i % 10 : Nat) && a_alike (S.2.2 9) (k / 10 : Nat) (k % 10 : Nat) (i / 10 : Nat) (i % 10 : Nat))) := rfl
      refine m_isVersion_ok hm hA (by omega) (rI_small (by omega) (by omega)) (rI_small (by omega) (by omega)) ?_
      cases h1 : a_isVer (S.2.2 9) (k / 10 : Nat) (k % 10 : Nat) with
      | false =>
        rw [if_neg (by decide)]
        rw [h1, Bool.false_and] at hdef
        rw [if_neg (by rw [hdef]; decide)] at ij
        exact ij
      | true =>
        rw [if_pos rfl]
        rw [h1, Bool.true_and] at hdef
        refine m_isVersion_ok hm hA (by omega) (rI_small (by omega) (by omega)) (rI_small (by omega) (by omega)) ?_
        cases h2 : a_isVer (S.2.2 9) (i / 10 : Nat) (i % 10 : Nat) with
        | false =>
          rw [if_neg (by decide)]
          rw [h2, Bool.false_and] at hdef
          rw [if_neg (by rw [hdef]; decide)] at ij
          exact ij
        | true =>
          rw [if_pos rfl]
          rw [h2, Bool.true_and] at hdef
          have r1 := a_isVer_r hA h1
          have r2 := a_isVer_r hA h2
          refine m_areAlike_ok hm hA (by omega) r1.1 r1.2 r2.1 r2.2 ?_
          cases h3 : a_alike (S.2.2 9) (k / 10 : Nat) (k % 10 : Nat) (i / 10 : Nat) (i % 10 : Nat) with
          | false =>
            rw [if_neg (by decide)]
            rw [h3] at hdef
            rw [if_neg (by rw [hdef]; decide)] at ij
            exact ij
          | true =>
            rw [if_pos rfl]
            rw [h3] at hdef
            rw [if_pos hdef] at ij
            exact ij
    · refine t_X2_twins_12 hm _ _ _ ⟨rI_small (by omega) (by omega), rI_small (by omega) (by omega), ?_⟩
      rw [if_pos (by omega)]
      exact ih
  · refine t_X2_twins_4 hm _ _ ⟨rI_small (by omega) (by omega), ?_⟩
    rw [if_pos (by decide)]
    exact ⟨_, rfl, _, S, rfl, rfl, H⟩
end
