set_option maxRecDepth 100000
/-! the twin: passages of a document -/
theorem s_or_00 : s_or 0 0 = 0 := by decide
theorem a_where_some {A : Nat → Int} {n t : Int} (hA : a_ok A n) (ht : 0 ≤ t ∧ t < n) (h : a_where A t ≠ 0) : ∃ v : Nat, v < 10 ∧ (v : Int) < a_many A (a_whose A t) ∧ s_has (a_where A t) v = true ∧ a_place A (a_whose A t) v t ≠ -1 := by
  have hw := (hA.2.2.2.2.2 t ht.1 ht.2).1
  have hv := hA.2.2.1 _ hw.1 hw.2
  rcases Classical.em (∃ v : Nat, v < (a_many A (a_whose A t)).toNat ∧ a_place A (a_whose A t) v t ≠ -1) with ⟨v, h1, h2⟩ | hno
  · refine ⟨v, by omega, by omega, ?_, h2⟩
    rw [a_where_has hA ht (by omega), decide_eq_true (by omega), decide_eq_false h2]
    rfl
  · exfalso
    apply h
    unfold a_where
    have : ∀ j : Nat, j ≤ (a_many A (a_whose A t)).toNat → upto j (fun v s => if a_place A (a_whose A t) v t = -1 then s_or s 0 else s_or s (s_bit v)) 0 = 0 := by
      intro j
      induction j with
      | zero => intro _; rfl
      | succ j ih =>
        intro hj
        rw [upto_s, ih (by omega), if_pos (Classical.byContradiction fun z => hno ⟨j, by omega, z⟩)]
        exact s_or_00
    exact this _ (Nat.le_refl _)
section
variable {E : pw_E} {w0 : pw_W} {m d : Nat} {S : tw_S}
theorem m_passages_ok {a : Int} {g : Bool} {K : Int → tw_S → Prop} (hm : pw_base E ≤ m) (hA : a_ok (S.2.2 9) (S.1 24)) (hd : 7 ≤ d) (ha : 0 ≤ a ∧ a < 4) (H : K (if g then a_passL (S.2.2 9) (S.1 24) a else a_passN (S.2.2 9) (S.1 24) a) S) : pw_Cl E m_X2_passages d [va_rf (some m), .int (iI a), .int (bI g)] (tw w0 m S) (c_i (t_i w0 m K)) := by
  obtain ⟨e, rfl, he⟩ := pw_d1 hd
  have hn := hA.2.1
  refine e_X2_passages _ _ _ (t_X2_passages_0 hm _ _ (loop_up (n := (S.1 24).toNat) (P := fun k => pw_Wp E m_X2_passages (e + 1) 8 [some (va_rf (some m)), some (.int (iI a)), some (.int (bI g)), some (.int (iI (upto k (fun t (c : Int) => if a_begins (S.2.2 9) (S.1 24) a t = true then c + 1 else c) 0))), some (.int (iI (upto k (fun t (c : Int) => if a_begins (S.2.2 9) (S.1 24) a t = true then max c (a_chain (S.2.2 9) a (a_where (S.2.2 9) t) 21 t) else c) 0))), some (.int (iI k)), none, none, none] [] (tw w0 m S) _) ?_ ?_ 0 (by omega)))
  · intro k hk ih
    have hw := (hA.2.2.2.2.2 k (by omega) (by omega)).1
    have h4 : 0 ≤ upto k (fun t (c : Int) => if a_begins (S.2.2 9) (S.1 24) a t = true then max c (a_chain (S.2.2 9) a (a_where (S.2.2 9) t) 21 t) else c) 0 ∧ upto k (fun t (c : Int) => if a_begins (S.2.2 9) (S.1 24) a t = true then max c (a_chain (S.2.2 9) a (a_where (S.2.2 9) t) 21 t) else c) 0 ≤ 21 := by
      refine upto_ind (Q := fun (c : Int) => 0 ≤ c ∧ c ≤ 21) ⟨by omega, by omega⟩ _ (fun j c hj hc => ?_)
      split
      · have := a_chain_r (S.2.2 9) a (a_where (S.2.2 9) j) 21 j
        omega
      · exact hc
    rw [upto_s, upto_s] at ih
    generalize upto k (fun t (c : Int) => if a_begins (S.2.2 9) (S.1 24) a t = true then max c (a_chain (S.2.2 9) a (a_where (S.2.2 9) t) 21 t) else c) 0 = v4 at ih h4 ⊢
    generalize upto k (fun t (c : Int) => if a_begins (S.2.2 9) (S.1 24) a t = true then c + 1 else c) 0 = v3 at ih ⊢
    refine t_X2_passages_8 hm _ _ _ _ _ ⟨rI_small (by omega) (by omega), rI_small (by omega) (by omega), ?_⟩
    rw [if_neg (by omega)]
    refine ⟨by omega, by omega, rI_small (by unfold a_whose at hw; omega) (by unfold a_whose at hw; omega), rI_small (by omega) (by omega), ?_⟩
    have hdef : a_begins (S.2.2 9) (S.1 24) a k = (decide (a_whose (S.2.2 9) k = a) && (!decide (a_where (S.2.2 9) k = 0) && !a_hasAhead (S.2.2 9) (S.1 24) a k (a_where (S.2.2 9) k))) := rfl
    by_cases h1 : a_whose (S.2.2 9) k = a
    · rw [if_pos (show S.2.2 9 (Int.toNat (1206 + (k : Int))) = a from h1)]
      rw [decide_eq_true h1, Bool.true_and] at hdef
      refine m_whereIs_ok hm hA (by omega) ⟨by omega, by omega⟩ ⟨a_where_r _ _, ?_⟩
      by_cases h2 : a_where (S.2.2 9) k = 0
      · rw [if_pos h2]
        rw [decide_eq_true h2, Bool.not_true, Bool.false_and] at hdef
        rw [if_neg (by rw [hdef]; decide), if_neg (by rw [hdef]; decide)] at ih
        exact ih
      · rw [if_neg h2]
        rw [decide_eq_false h2, Bool.not_false, Bool.true_and] at hdef
        refine m_hasAhead_ok hm hA (by omega) ha (rI_small (by omega) (by omega)) (a_where_r _ _) ?_
        cases hh : a_hasAhead (S.2.2 9) (S.1 24) a k (a_where (S.2.2 9) k) with
        | true =>
          rw [if_pos rfl]
          rw [hh, Bool.not_true] at hdef
          rw [if_neg (by rw [hdef]; decide), if_neg (by rw [hdef]; decide)] at ih
          exact ih
        | false =>
          rw [if_neg (by decide)]
          rw [hh, Bool.not_false] at hdef
          rw [if_pos hdef, if_pos hdef] at ih
          obtain ⟨v, hv1, hv2, hv3, hv4⟩ := a_where_some hA ⟨by omega, by omega⟩ h2
          rw [h1] at hv2 hv4
          have hp := a_place_r (S.2.2 9) a v k
          refine m_chain (v := v) hm hA (by omega) ha (a_where_r _ _) hv2 hv3 ⟨h4.1, by omega⟩ 21 k 0 (Or.inr ⟨by omega, by omega, by omega, by omega⟩) ⟨by omega, by omega⟩ ?_
          rw [Int.zero_add]
          exact ih
    · rw [if_neg (show ¬ S.2.2 9 (Int.toNat (1206 + (k : Int))) = a from h1)]
      rw [decide_eq_false h1, Bool.false_and] at hdef
      rw [if_neg (by rw [hdef]; decide), if_neg (by rw [hdef]; decide)] at ih
      exact ih
  · refine t_X2_passages_8 hm _ _ _ _ _ ⟨rI_small (by omega) (by omega), rI_small (by omega) (by omega), ?_⟩
    rw [if_pos (by omega)]
    cases g with
    | true => rw [if_pos rfl]; rw [if_pos rfl] at H; exact ⟨_, rfl, _, S, rfl, rfl, H⟩
    | false => rw [if_neg (by decide)]; rw [if_neg (by decide)] at H; exact ⟨_, rfl, _, S, rfl, rfl, H⟩
end
