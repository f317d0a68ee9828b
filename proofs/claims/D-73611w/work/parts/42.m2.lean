set_option maxRecDepth 100000
/-! the twin: alike versions, postings, the longest document -/
def b01 (b : Bool) : Int := if b then 1 else 0
theorem b01_r (b : Bool) : b01 b = 0 ∨ b01 b = 1 := by cases b <;> simp [b01]
theorem b01_I (b : Bool) : iI (b01 b) = bI b := by cases b <;> rfl
theorem b01_rI (b : Bool) : rI (b01 b) := by cases b <;> exact ⟨by decide, by decide⟩
theorem b01_0 (b : Bool) : (b01 b = 0) = (b = false) := by cases b <;> simp [b01]
/-- a word of a version -/
def a_wordAt (A : Nat → Int) (d v p : Int) : Int := a_word A (a_tok A d v p)
def a_alike (A : Nat → Int) (d v e w : Int) : Bool := decide (a_long A d v = a_long A e w) && (List.range (a_long A d v).toNat).all (fun p => decide (a_wordAt A d v p = a_wordAt A e w p))
section
variable {E : pw_E} {w0 : pw_W} {m d : Nat} {S : tw_S}
theorem m_wordAt_ok {a v k : Int} {K : Int → tw_S → Prop} (hm : pw_base E ≤ m) (hA : a_ok (S.2.2 9) (S.1 24)) (hd : 3 ≤ d) (ha : 0 ≤ a ∧ a < 4) (hv : 0 ≤ v ∧ v < a_many (S.2.2 9) a) (hk : 0 ≤ k ∧ k < a_long (S.2.2 9) a v) (H : K (a_wordAt (S.2.2 9) a v k) S) : pw_Cl E m_X2_wordAt d [va_rf (some m), .int (iI a), .int (iI v), .int (iI k)] (tw w0 m S) (c_i (t_i w0 m K)) := by
  obtain ⟨e, rfl, he⟩ := pw_d1 hd
  have hv10 := (hA.2.2.1 a ha.1 ha.2).2
  have hl := hA.2.2.2.1 a v ha.1 ha.2 hv.1 (by omega)
  have ht := hA.2.2.2.2.1 a v k ha.1 ha.2 hv.1 hv.2 hk.1 hk.2
  have hn := hA.2.1
  exact e_X2_wordAt _ _ _ _ (t_X2_wordAt_0 hm _ _ _ (m_tokenAt_ok hm he ha ⟨hv.1, by omega⟩ ⟨hk.1, by omega⟩ (m_wordOf_ok hm (by omega) ⟨ht.1, by omega⟩ ⟨_, rfl, _, S, rfl, rfl, H⟩)))
theorem a_wordAt_r {A : Nat → Int} {n a v k : Int} (hA : a_ok A n) (ha : 0 ≤ a ∧ a < 4) (hv : 0 ≤ v ∧ v < a_many A a) (hk : 0 ≤ k ∧ k < a_long A a v) : rI (a_wordAt A a v k) :=
  (hA.2.2.2.2.2 _ (hA.2.2.2.2.1 a v k ha.1 ha.2 hv.1 hv.2 hk.1 hk.2).1 (hA.2.2.2.2.1 a v k ha.1 ha.2 hv.1 hv.2 hk.1 hk.2).2).2
theorem m_areAlike_ok {a v b u : Int} {K : Bool → tw_S → Prop} (hm : pw_base E ≤ m) (hA : a_ok (S.2.2 9) (S.1 24)) (hd : 4 ≤ d) (ha : 0 ≤ a ∧ a < 4) (hv : 0 ≤ v ∧ v < a_many (S.2.2 9) a) (hb : 0 ≤ b ∧ b < 4) (hu : 0 ≤ u ∧ u < a_many (S.2.2 9) b) (H : K (a_alike (S.2.2 9) a v b u) S) : pw_Cl E m_X2_areAlike d [va_rf (some m), .int (iI a), .int (iI v), .int (iI b), .int (iI u)] (tw w0 m S) (c_z (t_b w0 m K)) := by
  obtain ⟨e, rfl, he⟩ := pw_d1 hd
  have hv10 := (hA.2.2.1 a ha.1 ha.2).2
  have hu10 := (hA.2.2.1 b hb.1 hb.2).2
  have hl := hA.2.2.2.1 a v ha.1 ha.2 hv.1 (by omega)
  have hl2 := hA.2.2.2.1 b u hb.1 hb.2 hu.1 (by omega)
  -- from k on, with x so far
  have loop : ∀ (j k : Nat) (x : Bool), k + j = (a_long (S.2.2 9) a v).toNat → (x = true → a_long (S.2.2 9) a v = a_long (S.2.2 9) b u) → K (x && (List.range' k j).all (fun p => decide (a_wordAt (S.2.2 9) a v p = a_wordAt (S.2.2 9) b u p))) S → pw_Wp E m_X2_areAlike (e + 1) 26 [some (va_rf (some m)), some (.int (iI a)), some (.int (iI v)), some (.int (iI b)), some (.int (iI u)), some (.int (iI (b01 x))), some (.int (iI k))] [] (tw w0 m S) (c_z (t_b w0 m K)) := by
    intro j
    induction j with
    | zero =>
      intro k x hk hx H
      refine t_X2_areAlike_26 hm _ _ _ _ _ _ (m_longOf_ok hm (by omega) ha ⟨hv.1, by omega⟩ ⟨rI_small (by omega) (by omega), rI_small (by omega) (by omega), ?_⟩)
      rw [if_pos (by omega)]
      refine ⟨b01_r x, x, by rw [b01_I], S, rfl, ?_⟩
      rw [List.range'_zero, List.all_nil, Bool.and_true] at H
      exact H
    | succ j ih =>
      intro k x hk hx H
      refine t_X2_areAlike_26 hm _ _ _ _ _ _ (m_longOf_ok hm (by omega) ha ⟨hv.1, by omega⟩ ⟨rI_small (by omega) (by omega), rI_small (by omega) (by omega), ?_⟩)
      rw [if_neg (by omega)]
      refine ⟨b01_rI x, ?_⟩
      cases x with
      | false =>
        rw [if_pos (show b01 false = 0 from rfl)]
        exact ⟨Or.inl rfl, false, rfl, S, rfl, H⟩
      | true =>
        rw [if_neg (by decide)]
        have hlk := hx rfl
        refine m_wordAt_ok hm hA (by omega) ha hv ⟨by omega, by omega⟩ (m_wordAt_ok hm hA (by omega) hb hu ⟨by omega, by omega⟩ ⟨a_wordAt_r hA ha hv ⟨by omega, by omega⟩, a_wordAt_r hA hb hu ⟨by omega, by omega⟩, ?_⟩)
        rw [List.range'_succ, List.all_cons, Bool.true_and] at H
        by_cases h : a_wordAt (S.2.2 9) a v k = a_wordAt (S.2.2 9) b u k
        · rw [if_pos h]
          rw [decide_eq_true h] at H
          exact ih (k + 1) true (by omega) hx H
        · rw [if_neg h]
          rw [decide_eq_false h] at H
          exact ih (k + 1) false (by omega) (fun h => by cases h) H
  refine e_X2_areAlike _ _ _ _ _ (t_X2_areAlike_0 hm _ _ _ _ (m_longOf_ok hm (by omega) ha ⟨hv.1, by omega⟩ (m_longOf_ok hm (by omega) hb ⟨hu.1, by omega⟩ ⟨rI_small (by omega) (by omega), rI_small (by omega) (by omega), ?_⟩)))
  unfold a_alike at H
  rw [List.range_eq_range'] at H
  by_cases h : a_long (S.2.2 9) a v = a_long (S.2.2 9) b u
  · rw [if_pos h]
    rw [decide_eq_true h] at H
    exact loop _ 0 true (by omega) (fun _ => h) H
  · rw [if_neg h]
    rw [decide_eq_false h] at H
    exact loop _ 0 false (by omega) (fun h => by cases h) H
def a_rows (x : Int) : Int := upto 10 (fun v n => n + (if s_has x v = true ∧ (v = 0 ∨ s_has x ((v : Int) - 1) = false) then 1 else 0)) 0
def a_post (A : Nat → Int) (n : Int) : Int := upto n.toNat (fun t c => c + a_rows (a_where A t)) 0
theorem m_postings_ok {K : Int → tw_S → Prop} (hm : pw_base E ≤ m) (hA : a_ok (S.2.2 9) (S.1 24)) (hd : 5 ≤ d) (H : K (a_post (S.2.2 9) (S.1 24)) S) : pw_Cl E m_X2_postings d [va_rf (some m)] (tw w0 m S) (c_i (t_i w0 m K)) := by
  obtain ⟨e, rfl, he⟩ := pw_d1 hd
  have hn := hA.2.1
  refine e_X2_postings _ (t_X2_postings_0 hm (loop_up (n := (S.1 24).toNat) (P := fun k => pw_Wp E m_X2_postings (e + 1) 4 [some (va_rf (some m)), some (.int (iI (upto k (fun t c => c + a_rows (a_where (S.2.2 9) t)) 0))), some (.int (iI k))] [] (tw w0 m S) _) ?_ ?_ 0 (by omega)))
  · intro k hk ih
    refine t_X2_postings_4 hm _ _ ⟨rI_small (by omega) (by omega), rI_small (by omega) (by omega), ?_⟩
    rw [if_neg (by omega)]
    exact m_whereIs_ok hm hA (by omega) ⟨by omega, by omega⟩ (m_rowsIn_ok hm (by omega) ih)
  · refine t_X2_postings_4 hm _ _ ⟨rI_small (by omega) (by omega), rI_small (by omega) (by omega), ?_⟩
    rw [if_pos (by omega)]
    exact ⟨_, rfl, _, S, rfl, rfl, H⟩
end
