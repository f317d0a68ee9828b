set_option maxRecDepth 100000
/-! the twin: what stands ahead, returns -/
/-- does a token of d stand so that t, of the same versions, is always behind it -/
def a_hasAhead (A : Nat → Int) (n d t s : Int) : Bool := (List.range n.toNat).any (fun u => decide (a_whose A u = d) && (decide (a_where A u = s) && decide (a_behind A d u s = t)))
/-- v is alike an earlier one but not the one before it -/
def a_ret (A : Nat → Int) (d v : Int) : Bool := (List.range v.toNat).any (fun (w : Nat) => a_alike A d v d w) && !a_alike A d v d (v - 1)
section
variable {E : pw_E} {w0 : pw_W} {m d : Nat} {S : tw_S}
theorem m_hasAhead_ok {a t s : Int} {K : Bool → tw_S → Prop} (hm : pw_base E ≤ m) (hA : a_ok (S.2.2 9) (S.1 24)) (hd : 6 ≤ d) (ha : 0 ≤ a ∧ a < 4) (ht : rI t) (hs : rI s) (H : K (a_hasAhead (S.2.2 9) (S.1 24) a t s) S) : pw_Cl E m_X2_hasAhead d [va_rf (some m), .int (iI a), .int (iI t), .int (iI s)] (tw w0 m S) (c_z (t_b w0 m K)) := by
  obtain ⟨e, rfl, he⟩ := pw_d1 hd
  have hn := hA.2.1
  have loop : ∀ (j k : Nat), k + j = (S.1 24).toNat → K ((List.range' k j).any (fun u => decide (a_whose (S.2.2 9) u = a) && (decide (a_where (S.2.2 9) u = s) && decide (a_behind (S.2.2 9) a u s = t)))) S → pw_Wp E m_X2_hasAhead (e + 1) 3 [some (va_rf (some m)), some (.int (iI a)), some (.int (iI t)), some (.int (iI s)), some (.int (iI k))] [] (tw w0 m S) (c_z (t_b w0 m K)) := by
    intro j
    induction j with
    | zero =>
      intro k hk H
      refine t_X2_hasAhead_3 hm _ _ _ _ ⟨rI_small (by omega) (by omega), rI_small (by omega) (by omega), ?_⟩
      rw [if_pos (by omega)]
      exact ⟨false, rfl, S, rfl, H⟩
    | succ j ih =>
      intro k hk H
      have hw := (hA.2.2.2.2.2 k (by omega) (by omega)).1
      rw [List.range'_succ, List.any_cons] at H
      refine t_X2_hasAhead_3 hm _ _ _ _ ⟨rI_small (by omega) (by omega), rI_small (by omega) (by omega), ?_⟩
      rw [if_neg (by omega)]
      refine ⟨by omega, by omega, rI_small (by unfold a_whose at hw; omega) (by unfold a_whose at hw; omega), rI_small (by omega) (by omega), ?_⟩
      by_cases h1 : a_whose (S.2.2 9) k = a
      · rw [if_pos (show S.2.2 9 (Int.toNat (1206 + (k : Int))) = a from h1)]
        rw [decide_eq_true h1, Bool.true_and] at H
        refine m_whereIs_ok hm hA (by omega) ⟨by omega, by omega⟩ ⟨a_where_r _ _, hs, ?_⟩
        by_cases h2 : a_where (S.2.2 9) k = s
        · rw [if_pos h2]
          rw [decide_eq_true h2, Bool.true_and] at H
          have hb := a_behind_r (t := k) (s := s) hA ha
          refine m_behindOf_ok hm hA (by omega) ha (rI_small (by omega) (by omega)) hs ⟨rI_small (by omega) (by omega), ht, ?_⟩
          by_cases h3 : a_behind (S.2.2 9) a k s = t
          · rw [if_pos h3]
            rw [decide_eq_true h3, Bool.true_or] at H
            exact ⟨true, rfl, S, rfl, H⟩
          · rw [if_neg h3]
            rw [decide_eq_false h3, Bool.false_or] at H
            exact ih (k + 1) (by omega) H
        · rw [if_neg h2]
          rw [decide_eq_false h2, Bool.false_and, Bool.false_or] at H
          exact ih (k + 1) (by omega) H
      · rw [if_neg (show ¬ S.2.2 9 (Int.toNat (1206 + (k : Int))) = a from h1)]
        rw [decide_eq_false h1, Bool.false_and, Bool.false_or] at H
        exact ih (k + 1) (by omega) H
  unfold a_hasAhead at H
  rw [List.range_eq_range'] at H
  exact e_X2_hasAhead _ _ _ _ (t_X2_hasAhead_0 hm _ _ _ (loop _ 0 (by omega) H))
def a_returns (A : Nat → Int) (d : Int) : Int := upto ((a_many A d).toNat - 1) (fun k n => n + (if a_ret A d (k + 1) = true then 1 else 0)) 0
theorem m_returns_ok {a : Int} {K : Int → tw_S → Prop} (hm : pw_base E ≤ m) (hA : a_ok (S.2.2 9) (S.1 24)) (hd : 5 ≤ d) (ha : 0 ≤ a ∧ a < 4) (h1 : 1 ≤ a_many (S.2.2 9) a) (H : K (a_returns (S.2.2 9) a) S) : pw_Cl E m_X2_returns d [va_rf (some m), .int (iI a)] (tw w0 m S) (c_i (t_i w0 m K)) := by
  obtain ⟨e, rfl, he⟩ := pw_d1 hd
  have hv10 := hA.2.2.1 a ha.1 ha.2
  refine e_X2_returns _ _ (t_X2_returns_0 hm _ (loop_up (n := (a_many (S.2.2 9) a).toNat - 1) (P := fun k => pw_Wp E m_X2_returns (e + 1) 4 [some (va_rf (some m)), some (.int (iI a)), some (.int (iI (upto k (fun k n => n + (if a_ret (S.2.2 9) a (k + 1) = true then 1 else 0)) 0))), some (.int (iI ((k + 1 : Nat) : Int))), none, none] [] (tw w0 m S) _) ?_ ?_ 0 (by omega)))
  · intro k hk ih
    refine t_X2_returns_4 hm _ _ _ (m_versions_ok hm (by omega) ha ⟨rI_small (by omega) (by omega), rI_small (by omega) (by omega), ?_⟩)
    rw [if_neg (by omega)]
    rw [upto_s] at ih
    have hk1 : (0 : Int) ≤ ((k + 1 : Nat) : Int) ∧ ((k + 1 : Nat) : Int) < a_many (S.2.2 9) a := ⟨by omega, by omega⟩
    generalize upto k (fun k (n : Int) => n + (if a_ret (S.2.2 9) a (k + 1) = true then 1 else 0)) 0 = c at ih ⊢
    have inner : ∀ (j i : Nat) (x : Bool), i + j = k + 1 → (x || (List.range' i j).any (fun (w : Nat) => a_alike (S.2.2 9) a ((k + 1 : Nat) : Int) a w)) = (List.range (k + 1)).any (fun (w : Nat) => a_alike (S.2.2 9) a ((k + 1 : Nat) : Int) a w) → pw_Wp E m_X2_returns (e + 1) 19 [some (va_rf (some m)), some (.int (iI a)), some (.int (iI c)), some (.int (iI ((k + 1 : Nat) : Int))), some (.int (iI (b01 x))), some (.int (iI i))] [] (tw w0 m S) (c_i (t_i w0 m K)) := by
      intro j
      induction j with
      | zero =>
        intro i x hi hx
        refine t_X2_returns_19 hm _ _ _ _ _ ⟨rI_small (by omega) (by omega), rI_small (by omega) (by omega), ?_⟩
        rw [if_pos (by omega)]
        refine ⟨b01_rI x, ?_⟩
        rw [List.range'_zero, List.any_nil, Bool.or_false] at hx
        have hr : a_ret (S.2.2 9) a ((k : Int) + 1) = (x && !a_alike (S.2.2 9) a ((k + 1 : Nat) : Int) a (((k + 1 : Nat) : Int) - 1)) := by
          unfold a_ret
          rw [hx]
          rfl
        rw [hr] at ih
        cases x with
        | false =>
          rw [if_pos (show b01 false = 0 from rfl)]
          rw [if_neg (by rw [Bool.false_and]; decide)] at ih
          exact ih
        | true =>
          rw [if_neg (by decide)]
          rw [Bool.true_and] at ih
          refine m_areAlike_ok hm hA (by omega) ha hk1 ha ⟨by omega, by omega⟩ ?_
          cases hal : a_alike (S.2.2 9) a ((k + 1 : Nat) : Int) a (((k + 1 : Nat) : Int) - 1) with
          | true =>
            rw [if_pos rfl]
            rw [hal, if_neg (by decide)] at ih
            exact ih
          | false =>
            rw [if_neg (by decide)]
            rw [hal, if_pos (by decide)] at ih
            exact ih
      | succ j jh =>
        intro i x hi hx
        refine t_X2_returns_19 hm _ _ _ _ _ ⟨rI_small (by omega) (by omega), rI_small (by omega) (by omega), ?_⟩
        rw [if_neg (by omega)]
        refine ⟨b01_rI x, ?_⟩
        rw [List.range'_succ, List.any_cons] at hx
        cases x with
        | false =>
          rw [if_pos (show b01 false = 0 from rfl)]
          rw [Bool.false_or] at hx
          refine m_areAlike_ok hm hA (by omega) ha hk1 ha ⟨by omega, by omega⟩ ?_
          cases hal : a_alike (S.2.2 9) a ((k + 1 : Nat) : Int) a i with
          | true =>
            rw [if_pos rfl]
            rw [hal] at hx
            exact jh (i + 1) true (by omega) hx
          | false =>
            rw [if_neg (by decide)]
            rw [hal] at hx
            exact jh (i + 1) false (by omega) hx
        | true =>
          rw [if_neg (by decide)]
          refine jh (i + 1) true (by omega) ?_
          rw [Bool.true_or] at hx ⊢
          exact hx
    refine inner (k + 1) 0 false (by omega) ?_
    rw [Bool.false_or, List.range_eq_range']
  · refine t_X2_returns_4 hm _ _ _ (m_versions_ok hm (by omega) ha ⟨rI_small (by omega) (by omega), rI_small (by omega) (by omega), ?_⟩)
    rw [if_pos (by omega)]
    exact ⟨_, rfl, _, S, rfl, rfl, H⟩
end
