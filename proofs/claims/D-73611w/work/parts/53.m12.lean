set_option maxRecDepth 100000
/-! the twin: an archive is handed -/
/-- the first k ints of the archive v laid out -/
def tw_row (S : tw_S) (v : Int) (k : Nat) : tw_S := (S.1, S.2.1, fun q n => if q = 9 ∧ n < k then S.2.2 6 (Int.toNat (1526 * v + n)) else S.2.2 q n)
theorem tw_row_0 (S : tw_S) (v : Int) : tw_row S v 0 = S := by
  unfold tw_row
  refine Prod.ext rfl (Prod.ext rfl (funext fun q => funext fun n => ?_))
  exact if_neg (fun h => by omega)
theorem tw_row_s (S : tw_S) (v : Int) (k : Nat) : tw_sa (tw_row S v k) 9 k (S.2.2 6 (Int.toNat (1526 * v + k))) = tw_row S v (k + 1) := by
  unfold tw_row tw_sa
  refine Prod.ext rfl (Prod.ext rfl (funext fun q => funext fun n => ?_))
  show (if q = 9 ∧ n = k then _ else if q = 9 ∧ n < k then _ else _) = if q = 9 ∧ n < k + 1 then _ else _
  by_cases h1 : q = 9 ∧ n = k
  · rw [if_pos h1, if_pos ⟨h1.1, by omega⟩, h1.2]
  · rw [if_neg h1]
    by_cases h2 : q = 9 ∧ n < k
    · rw [if_pos h2, if_pos ⟨h2.1, by omega⟩]
    · rw [if_neg h2, if_neg (fun h => by
        by_cases e : n = k
        · exact h1 ⟨h.1, e⟩
        · exact h2 ⟨h.1, by omega⟩)]
/-- with an archive handed -/
def tw_hand (S : tw_S) (v : Int) : tw_S := tw_sf (tw_row S v 1526) 24 (S.2.2 6 (Int.toNat (1526 * v + 5)))
section
variable {E : pw_E} {w0 : pw_W} {m d : Nat} {S : tw_S}
theorem m_is_ok {s k : Int} {K : Bool → tw_S → Prop} (hm : pw_base E ≤ m) (hd : 2 ≤ d) (hs : 0 ≤ s ∧ s < 12) (hk : rI k) (hr : 0 ≤ S.2.2 5 s.toNat ∧ S.2.2 5 s.toNat ≤ 1000) (H : K (decide (0 ≤ k ∧ k ≤ S.2.2 5 s.toNat - 1)) S) : pw_Cl E m_X2_is d [va_rf (some m), .int (iI s), .int (iI k)] (tw w0 m S) (c_z (t_b w0 m K)) := by
  obtain ⟨e, rfl, he⟩ := pw_d1 hd
  exact e_X2_is _ _ _ (t_X2_is_0 hm _ _ ⟨hs.1, hs.2, m_in_ok hm he hk (rI_small (by omega) (by omega)) (rI_small (by omega) (by omega)) ⟨_, rfl, S, rfl, H⟩⟩)
theorem m_hand_ok {v : Int} {K : Bool → tw_S → Prop} (hm : pw_base E ≤ m) (hd : 3 ≤ d) (hv : rI v) (hr : 0 ≤ S.2.2 5 0 ∧ S.2.2 5 0 ≤ 2) (H : (0 ≤ v ∧ v ≤ S.2.2 5 0 - 1 → K true (tw_hand S v)) ∧ (¬ (0 ≤ v ∧ v ≤ S.2.2 5 0 - 1) → K false S)) : pw_Cl E m_X2_hand d [va_rf (some m), .int (iI v)] (tw w0 m S) (c_z (t_b w0 m K)) := by
  obtain ⟨e, rfl, he⟩ := pw_d1 hd
  refine e_X2_hand _ _ (t_X2_hand_0 hm _ (m_is_ok hm he ⟨by omega, by omega⟩ hv ⟨hr.1, by show S.2.2 5 0 ≤ 1000; omega⟩ ?_))
  show (if decide (0 ≤ v ∧ v ≤ S.2.2 5 0 - 1) = true then _ else _)
  by_cases h : 0 ≤ v ∧ v ≤ S.2.2 5 0 - 1
  · rw [if_pos (decide_eq_true h)]
    have main := loop_up (n := 1526) (P := fun k => pw_Wp E m_X2_hand (e + 1) 13 [some (va_rf (some m)), some (.int (iI v)), some (.int (iI k))] [] (tw w0 m (tw_row S v k)) (c_z (t_b w0 m K))) ?_ ?_ 0 (by omega)
    · rw [tw_row_0] at main
      exact main
    · intro k hk ih
      refine t_X2_hand_13 hm _ _ ⟨rI_small (by omega) (by omega), ?_⟩
      rw [if_neg (by omega)]
      refine ⟨by omega, by omega, by omega, by omega, ?_⟩
      rw [← tw_row_s] at ih
      exact ih
    · refine t_X2_hand_13 hm _ _ ⟨rI_small (by omega) (by omega), ?_⟩
      rw [if_pos (by decide)]
      exact ⟨true, rfl, _, rfl, H.1 h⟩
  · rw [if_neg (by rw [decide_eq_true_eq]; exact h)]
    exact ⟨false, rfl, S, rfl, H.2 h⟩
end
