set_option maxRecDepth 100000
/-! the twin: versions that are, the longest document, twins, what is kept, what returns -/
def a_isDoc (A : Nat → Int) (d : Int) : Bool := decide (0 ≤ d ∧ d ≤ A 0 - 1)
def a_isVer (A : Nat → Int) (d v : Int) : Bool := a_isDoc A d && decide (0 ≤ v ∧ v ≤ a_many A d - 1)
section
variable {E : pw_E} {w0 : pw_W} {m d : Nat} {S : tw_S}
theorem m_isDoc_ok {v : Int} {K : Bool → tw_S → Prop} (hm : pw_base E ≤ m) (hA : a_ok (S.2.2 9) (S.1 24)) (hd : 2 ≤ d) (hv : rI v) (H : K (a_isDoc (S.2.2 9) v) S) : pw_Cl E m_X2_isDoc d [va_rf (some m), .int (iI v)] (tw w0 m S) (c_z (t_b w0 m K)) := by
  obtain ⟨e, rfl, he⟩ := pw_d1 hd
  have h0 := hA.1
  exact e_X2_isDoc _ _ (t_X2_isDoc_0 hm _ (m_in_ok hm he hv (rI_small (by omega) (by omega)) (rI_small (by omega) (by omega)) ⟨_, rfl, S, rfl, H⟩))
theorem m_isVersion_ok {a v : Int} {K : Bool → tw_S → Prop} (hm : pw_base E ≤ m) (hA : a_ok (S.2.2 9) (S.1 24)) (hd : 3 ≤ d) (ha : rI a) (hv : rI v) (H : K (a_isVer (S.2.2 9) a v) S) : pw_Cl E m_X2_isVersion d [va_rf (some m), .int (iI a), .int (iI v)] (tw w0 m S) (c_z (t_b w0 m K)) := by
  obtain ⟨e, rfl, he⟩ := pw_d1 hd
  have h0 := hA.1
  refine e_X2_isVersion _ _ _ (t_X2_isVersion_0 hm _ _ (m_isDoc_ok hm hA he ha ?_))
  unfold a_isVer at H
  cases hb : a_isDoc (S.2.2 9) a with
  | false =>
    rw [if_neg (by decide)]
    rw [hb] at H
    exact ⟨false, rfl, S, rfl, H⟩
  | true =>
    rw [if_pos rfl]
    rw [hb, Bool.true_and] at H
    have hb := of_decide_eq_true hb
    have hv10 := hA.2.2.1 a hb.1 (by omega)
    refine m_versions_ok hm (by omega) ⟨hb.1, by omega⟩ (m_in_ok hm (by omega) hv (rI_small (by omega) (by omega)) (rI_small (by omega) (by omega)) ?_)
    cases hc : decide (0 ≤ v ∧ v ≤ a_many (S.2.2 9) a - 1) with
    | false =>
      rw [if_neg (by decide)]
      rw [hc] at H
      exact ⟨false, rfl, S, rfl, H⟩
    | true =>
      rw [if_pos rfl]
      rw [hc] at H
      exact ⟨true, rfl, S, rfl, H⟩
/-- the first of the documents whose latest version is the longest -/
def a_longest (A : Nat → Int) : Int := upto (A 0).toNat (fun d b => if b = -1 then (d : Int) else if a_long A d (a_many A d - 1) ≤ a_long A b (a_many A b - 1) then b else (d : Int)) (-1)
/-- each document has a version -/
def a_full (A : Nat → Int) : Prop := ∀ d, 0 ≤ d → d < A 0 → 1 ≤ a_many A d
theorem m_longest_ok {K : Int → tw_S → Prop} (hm : pw_base E ≤ m) (hA : a_ok (S.2.2 9) (S.1 24)) (hF : a_full (S.2.2 9)) (hd : 3 ≤ d) (H : K (a_longest (S.2.2 9)) S) : pw_Cl E m_X2_longest d [va_rf (some m)] (tw w0 m S) (c_i (t_i w0 m K)) := by
  obtain ⟨e, rfl, he⟩ := pw_d1 hd
  have h0 := hA.1
  refine e_X2_longest _ (t_X2_longest_0 hm (loop_up (n := (S.2.2 9 0).toNat) (P := fun k => pw_Wp E m_X2_longest (e + 1) 4 [some (va_rf (some m)), some (.int (iI (upto k (fun d b => if b = -1 then (d : Int) else if a_long (S.2.2 9) d (a_many (S.2.2 9) d - 1) ≤ a_long (S.2.2 9) b (a_many (S.2.2 9) b - 1) then b else (d : Int)) (-1)))), some (.int (iI k))] [] (tw w0 m S) _) ?_ ?_ 0 (by omega)))
  · intro k hk ih
    have hb : -1 ≤ upto k (fun d b => if b = -1 then (d : Int) else if a_long (S.2.2 9) d (a_many (S.2.2 9) d - 1) ≤ a_long (S.2.2 9) b (a_many (S.2.2 9) b - 1) then b else (d : Int)) (-1) ∧ upto k (fun d b => if b = -1 then (d : Int) else if a_long (S.2.2 9) d (a_many (S.2.2 9) d - 1) ≤ a_long (S.2.2 9) b (a_many (S.2.2 9) b - 1) then b else (d : Int)) (-1) < k ∨ k = 0 := by
      rcases Nat.eq_zero_or_pos k with h | h
      · exact Or.inr h
      · refine Or.inl (upto_ind (Q := fun (b : Int) => -1 ≤ b ∧ b < k) ⟨by omega, by omega⟩ _ (fun j b hj hb => ?_))
        split
        · omega
        · split
          · exact hb
          · omega
    rw [upto_s] at ih
    generalize hB : upto k (fun d b => if b = -1 then (d : Int) else if a_long (S.2.2 9) d (a_many (S.2.2 9) d - 1) ≤ a_long (S.2.2 9) b (a_many (S.2.2 9) b - 1) then b else (d : Int)) (-1) = B at ih hb ⊢
    have hB2 : -1 ≤ B ∧ (B < k ∨ B = -1) := by
      rcases hb with h | h
      · omega
      · subst h; rw [upto_0] at hB; omega
    have hk4 : (0 : Int) ≤ k ∧ (k : Int) < 4 := ⟨by omega, by omega⟩
    have hv := hA.2.2.1 k hk4.1 hk4.2
    have hf := hF k hk4.1 (by omega)
    refine t_X2_longest_4 hm _ _ ⟨rI_small (by omega) (by omega), rI_small (by omega) (by omega), ?_⟩
    rw [if_neg (by omega)]
    refine ⟨rI_small (by omega) (by omega), ?_⟩
    by_cases h1 : B = -1
    · rw [if_pos h1]
      rw [if_pos h1] at ih
      exact ih
    · rw [if_neg h1]
      rw [if_neg h1] at ih
      have hB4 : 0 ≤ B ∧ B < 4 := ⟨by omega, by omega⟩
      have hv2 := hA.2.2.1 B hB4.1 hB4.2
      have hf2 := hF B hB4.1 (by omega)
      have l1 := hA.2.2.2.1 k (a_many (S.2.2 9) k - 1) hk4.1 hk4.2 (by omega) (by omega)
      have l2 := hA.2.2.2.1 B (a_many (S.2.2 9) B - 1) hB4.1 hB4.2 (by omega) (by omega)
      refine m_versions_ok hm (by omega) hk4 (m_longOf_ok hm he hk4 ⟨by omega, by omega⟩ (m_versions_ok hm (by omega) hB4 (m_longOf_ok hm he hB4 ⟨by omega, by omega⟩ ⟨rI_small (by omega) (by omega), rI_small (by omega) (by omega), ?_⟩)))
      by_cases h2 : a_long (S.2.2 9) k (a_many (S.2.2 9) k - 1) ≤ a_long (S.2.2 9) B (a_many (S.2.2 9) B - 1)
      · rw [if_pos h2]
        rw [if_pos h2] at ih
        exact ih
      · rw [if_neg h2]
        rw [if_neg h2] at ih
        exact ih
  · refine t_X2_longest_4 hm _ _ ⟨rI_small (by omega) (by omega), rI_small (by omega) (by omega), ?_⟩
    rw [if_pos (by omega)]
    exact ⟨_, rfl, _, S, rfl, rfl, H⟩
/-- how many of d's tokens are in all its versions -/
def a_kept (A : Nat → Int) (n d : Int) : Int := upto n.toNat (fun t c => c + (if a_whose A t = d ∧ s_ones (a_where A t) = a_many A d then 1 else 0)) 0
theorem upto_cnt {c : Nat → Prop} [∀ k, Decidable (c k)] (n : Nat) : 0 ≤ upto n (fun k (a : Int) => a + (if c k then 1 else 0)) 0 ∧ upto n (fun k (a : Int) => a + (if c k then 1 else 0)) 0 ≤ n := by
  induction n with
  | zero => exact ⟨Int.le_refl 0, Int.le_refl 0⟩
  | succ n ih =>
    rw [upto_s]
    generalize upto n (fun k (a : Int) => a + (if c k then 1 else 0)) 0 = z at ih
    split <;> omega
theorem s_ones_r (x : Int) : 0 ≤ s_ones x ∧ s_ones x ≤ 10 := upto_cnt (c := fun k => s_has x k = true) 10
theorem m_keptIn_ok {a : Int} {K : Int → tw_S → Prop} (hm : pw_base E ≤ m) (hA : a_ok (S.2.2 9) (S.1 24)) (hd : 5 ≤ d) (ha : 0 ≤ a ∧ a < 4) (H : K (a_kept (S.2.2 9) (S.1 24) a) S) : pw_Cl E m_X2_keptIn d [va_rf (some m), .int (iI a)] (tw w0 m S) (c_i (t_i w0 m K)) := by
  obtain ⟨e, rfl, he⟩ := pw_d1 hd
  have hn := hA.2.1
  refine e_X2_keptIn _ _ (t_X2_keptIn_0 hm _ (loop_up (n := (S.1 24).toNat) (P := fun k => pw_Wp E m_X2_keptIn (e + 1) 4 [some (va_rf (some m)), some (.int (iI a)), some (.int (iI (upto k (fun t c => c + (if a_whose (S.2.2 9) t = a ∧ s_ones (a_where (S.2.2 9) t) = a_many (S.2.2 9) a then 1 else 0)) 0))), some (.int (iI k))] [] (tw w0 m S) _) ?_ ?_ 0 (by omega)))
  · intro k hk ih
    have hw := hA.2.2.2.2.2 k (by omega) (by omega)
    rw [upto_s] at ih
    refine t_X2_keptIn_4 hm _ _ _ ⟨rI_small (by omega) (by omega), rI_small (by omega) (by omega), ?_⟩
    rw [if_neg (by omega)]
    refine ⟨by omega, by omega, rI_small (by have := hw.1; unfold a_whose at this; omega) (by have := hw.1; unfold a_whose at this; omega), rI_small (by omega) (by omega), ?_⟩
    by_cases h1 : a_whose (S.2.2 9) k = a
    · rw [if_pos (show S.2.2 9 (Int.toNat (1206 + (k : Int))) = a from h1)]
      have ho := s_ones_r (a_where (S.2.2 9) k)
      have hv := hA.2.2.1 a ha.1 ha.2
      refine m_whereIs_ok hm hA (by omega) ⟨by omega, by omega⟩ (m_ones_ok hm (by omega) (m_versions_ok hm (by omega) ha ⟨rI_small (by omega) (by omega), rI_small (by omega) (by omega), ?_⟩))
      by_cases h2 : s_ones (a_where (S.2.2 9) k) = a_many (S.2.2 9) a
      · rw [if_pos h2]
        rw [if_pos ⟨h1, h2⟩] at ih
        exact ih
      · rw [if_neg h2]
        rw [if_neg (fun q => h2 q.2)] at ih
        exact ih
    · rw [if_neg (show ¬ S.2.2 9 (Int.toNat (1206 + (k : Int))) = a from h1)]
      rw [if_neg (fun q => h1 q.1)] at ih
      exact ih
  · refine t_X2_keptIn_4 hm _ _ _ ⟨rI_small (by omega) (by omega), rI_small (by omega) (by omega), ?_⟩
    rw [if_pos (by omega)]
    exact ⟨_, rfl, _, S, rfl, rfl, H⟩
end
