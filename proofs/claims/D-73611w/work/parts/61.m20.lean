set_option maxRecDepth 100000
/-! the twin: questions -/
/-- of the questions u: how many; the i-th number of the k-th -/
def q_n (B : Nat → Int) (u : Int) : Int := B (Int.toNat (57 * u))
def q_at (B : Nat → Int) (u k i : Int) : Int := B (Int.toNat (57 * u + 1 + 7 * k + i))
def q_ok (B : Nat → Int) (u : Int) : Prop := (0 ≤ q_n B u ∧ q_n B u ≤ 8) ∧ (∀ k i, 0 ≤ k → k < 8 → 0 ≤ i → i < 7 → -1 ≤ q_at B u k i ∧ q_at B u k i ≤ 531440) ∧
  ∀ k, 0 ≤ k → k < q_n B u → (0 ≤ q_at B u k 0 ∧ q_at B u k 0 ≤ 7) ∧ (q_at B u k 0 = 0 → 1 ≤ q_at B u k 1 ∧ q_at B u k 1 ≤ 4) ∧ (q_at B u k 0 = 1 ∨ q_at B u k 0 = 2 → 1 ≤ q_at B u k 1 ∧ q_at B u k 1 ≤ 9) ∧ (3 ≤ q_at B u k 0 → 0 ≤ q_at B u k 1 ∧ q_at B u k 1 < k) ∧ (6 ≤ q_at B u k 0 → 0 ≤ q_at B u k 2 ∧ q_at B u k 2 < k)
/-- all questions that are told are so -/
def tw_qok (S : tw_S) : Prop := ∀ u : Int, 0 ≤ u → u < S.2.2 5 1 → q_ok (S.2.2 7) u
theorem tw_qok.same {S S' : tw_S} (h : tw_qok S) (hs : tw_same S S') : tw_qok S' := by
  intro u h0 h1
  rw [hs 7 rfl]
  rw [hs 5 rfl] at h1
  exact h u h0 h1
def tw_isQu (S : tw_S) (u : Int) : Bool := decide (0 ≤ u ∧ u ≤ S.2.2 5 1 - 1)
def q_words (B : Nat → Int) (u k : Int) : Int := if q_at B u k 0 = 0 then q_at B u k 1 else if q_at B u k 0 = 1 then 2 else if q_at B u k 0 = 2 then 1 else 0
def q_question (B : Nat → Int) (u k w : Int) : Int := if k = -1 then (if w = 0 then q_n B u else -2) else if decide (0 ≤ k ∧ k ≤ q_n B u - 1) = true then (if w < 10 then (if decide (0 ≤ w ∧ w ≤ 2) = true then q_at B u k w else -2) else if q_words B u k ≤ w - 10 then -2 else q_at B u k (3 + w - 10)) else -2
def q_begins (A B : Nat → Int) (u k d v p : Int) : Bool := decide (p + q_at B u k 1 ≤ a_long A d v) && (List.range (q_at B u k 1).toNat).all (fun i => decide (a_wordAt A d v (p + i) = q_at B u k (3 + i)))
def q_times (A B : Nat → Int) (u k d v : Int) : Int := upto (a_long A d v).toNat (fun p (n : Int) => n + (if q_begins A B u k d v p = true then 1 else 0)) 0
def q_near1 (A B : Nat → Int) (u k d v : Int) (p e : Nat) : Bool := decide (1 ≤ (if (e : Int) ≤ p then (p : Int) - e else (e : Int) - p) ∧ (if (e : Int) ≤ p then (p : Int) - e else (e : Int) - p) ≤ q_at B u k 1) && (decide (a_wordAt A d v p = q_at B u k 3) && decide (a_wordAt A d v e = q_at B u k 4))
def q_near (A B : Nat → Int) (u k d v : Int) : Bool := upto (a_long A d v).toNat (fun p b => upto (a_long A d v).toNat (fun e b => b || q_near1 A B u k d v p e) b) false
theorem q_begins_le {A B : Nat → Int} {u k d v p : Int} (h : q_begins A B u k d v p = true) : p + q_at B u k 1 ≤ a_long A d v := by
  unfold q_begins at h
  simp only [Bool.and_eq_true, decide_eq_true_eq] at h
  exact h.1
section
variable {E : pw_E} {w0 : pw_W} {m d : Nat} {S : tw_S}
theorem m_askedMany_ok {K : Int → tw_S → Prop} (hm : pw_base E ≤ m) (hd : 1 ≤ d) (hu : 0 ≤ S.1 28 ∧ S.1 28 ≤ 1) (H : K (q_n (S.2.2 7) (S.1 28)) S) : pw_Cl E m_X2_askedMany d [va_rf (some m)] (tw w0 m S) (c_i (t_i w0 m K)) := by
  obtain ⟨e, rfl, he⟩ := pw_d1 hd
  exact e_X2_askedMany _ (t_X2_askedMany_0 hm ⟨by omega, by omega, _, rfl, _, _, rfl, rfl, H⟩)
theorem m_ofAsking_ok {k i : Int} {K : Int → tw_S → Prop} (hm : pw_base E ≤ m) (hd : 1 ≤ d) (hu : 0 ≤ S.1 28 ∧ S.1 28 ≤ 1) (hk : 0 ≤ k ∧ k < 8) (hi : 0 ≤ i ∧ i < 7) (H : K (q_at (S.2.2 7) (S.1 28) k i) S) : pw_Cl E m_X2_ofAsking d [va_rf (some m), .int (iI k), .int (iI i)] (tw w0 m S) (c_i (t_i w0 m K)) := by
  obtain ⟨e, rfl, he⟩ := pw_d1 hd
  exact e_X2_ofAsking _ _ _ (t_X2_ofAsking_0 hm _ _ ⟨by omega, by omega, _, rfl, _, _, rfl, rfl, H⟩)
theorem m_hasAsking_ok {u : Int} {K : Bool → tw_S → Prop} (hm : pw_base E ≤ m) (hd : 3 ≤ d) (hu : rI u) (hr : 0 ≤ S.2.2 5 1 ∧ S.2.2 5 1 ≤ 2) (H : K (tw_isQu S u) (tw_sf S 28 u)) : pw_Cl E m_X2_hasAsking d [va_rf (some m), .int (iI u)] (tw w0 m S) (c_z (t_b w0 m K)) := by
  obtain ⟨e, rfl, he⟩ := pw_d1 hd
  exact e_X2_hasAsking _ _ (t_X2_hasAsking_0 hm _ (m_is_ok hm he ⟨by omega, by omega⟩ hu ⟨hr.1, by show S.2.2 5 1 ≤ 1000; omega⟩ ⟨_, rfl, _, rfl, H⟩))
theorem m_wordsOf_ok {k : Int} {K : Int → tw_S → Prop} (hm : pw_base E ≤ m) (hd : 2 ≤ d) (hu : 0 ≤ S.1 28 ∧ S.1 28 ≤ 1) (hB : q_ok (S.2.2 7) (S.1 28)) (hk : 0 ≤ k ∧ k < 8) (H : K (q_words (S.2.2 7) (S.1 28) k) S) : pw_Cl E m_X2_wordsOf d [va_rf (some m), .int (iI k)] (tw w0 m S) (c_i (t_i w0 m K)) := by
  obtain ⟨e, rfl, he⟩ := pw_d1 hd
  have h0 := hB.2.1 k 0 hk.1 hk.2 (by omega) (by omega)
  have hr : rI (q_at (S.2.2 7) (S.1 28) k 0) := rI_small (by omega) (by omega)
  refine e_X2_wordsOf _ _ (t_X2_wordsOf_0 hm _ (m_ofAsking_ok hm he hu hk ⟨by omega, by omega⟩ ⟨hr, ?_⟩))
  unfold q_words at H
  exact ifS2 H (fun h H => m_ofAsking_ok hm he hu hk ⟨by omega, by omega⟩ ⟨_, rfl, _, _, rfl, rfl, H⟩) (fun h H => ⟨hr, ifS2 H (fun h H => ⟨_, rfl, _, _, rfl, rfl, H⟩) (fun h H => ⟨hr, ifS2 H (fun h H => ⟨_, rfl, _, _, rfl, rfl, H⟩) (fun h H => ⟨_, rfl, _, _, rfl, rfl, H⟩)⟩)⟩)
theorem m_isAsking_ok {k : Int} {K : Bool → tw_S → Prop} (hm : pw_base E ≤ m) (hd : 2 ≤ d) (hu : 0 ≤ S.1 28 ∧ S.1 28 ≤ 1) (hB : q_ok (S.2.2 7) (S.1 28)) (hk : rI k) (H : K (decide (0 ≤ k ∧ k ≤ q_n (S.2.2 7) (S.1 28) - 1)) S) : pw_Cl E m_X2_isAsking d [va_rf (some m), .int (iI k)] (tw w0 m S) (c_z (t_b w0 m K)) := by
  obtain ⟨e, rfl, he⟩ := pw_d1 hd
  have h0 := hB.1
  exact e_X2_isAsking _ _ (t_X2_isAsking_0 hm _ (m_askedMany_ok hm he hu (m_in_ok hm he hk (rI_small (by omega) (by omega)) (rI_small (by omega) (by omega)) ⟨_, rfl, _, rfl, H⟩)))
theorem m_question_ok {u k w : Int} {K : Int → tw_S → Prop} (hm : pw_base E ≤ m) (hI : tw_arok S) (hQ : tw_qok S) (hd : 4 ≤ d) (hu : rI u) (hk : rI k) (hw : rI w) (H : tq S K (if tw_isQu S u = true then q_question (S.2.2 7) u k w else -2)) : pw_Cl E m_X2_question d [va_rf (some m), .int (iI u), .int (iI k), .int (iI w)] (tw w0 m S) (c_i (t_i w0 m K)) := by
  obtain ⟨e, rfl, he⟩ := pw_d1 hd
  have hr := hI.1 1 (by omega)
  have hs : tw_same S (tw_sf (tw_sf S 0 0) 28 u) := (tw_same.sf S 0 0).trans (tw_same.sf _ _ _)
  refine e_X2_question _ _ _ _ (t_X2_question_0 hm _ _ _ (m_hasAsking_ok hm (by omega) hu hr ?_))
  refine ifS (x := q_question (S.2.2 7) u k w) (y := -2) (K := tq S K) H (fun h H => ?_) (fun h H => ⟨_, rfl, _, _, rfl, rfl, H _ hs⟩)
  have h := of_decide_eq_true h
  have h : 0 ≤ u ∧ u ≤ S.2.2 5 1 - 1 := h
  have hu2 : 0 ≤ (tw_sf (tw_sf S 0 0) 28 u).1 28 ∧ (tw_sf (tw_sf S 0 0) 28 u).1 28 ≤ 1 := ⟨h.1, by show u ≤ 1; omega⟩
  have hB : q_ok (S.2.2 7) u := hQ u h.1 (by omega)
  have hn := hB.1
  refine ⟨hk, ifS H (fun h H => ⟨hw, ifS H (fun h H => m_askedMany_ok hm (by omega) hu2 ⟨_, rfl, _, _, rfl, rfl, H _ hs⟩) (fun h H => ⟨_, rfl, _, _, rfl, rfl, H _ hs⟩)⟩) (fun h H => ?_)⟩
  have hnr : rI (q_n (S.2.2 7) u - 1) := rI_small (by omega) (by omega)
  refine m_askedMany_ok hm (by omega) hu2 (m_in_ok hm (by omega) hk (rI_small (by omega) (by omega)) hnr (ifS H (fun h H => ?_) (fun h H => ⟨_, rfl, _, _, rfl, rfl, H _ hs⟩)))
  have h : 0 ≤ k ∧ k ≤ q_n (S.2.2 7) u - 1 := of_decide_eq_true h
  have hk8 : 0 ≤ k ∧ k < 8 := ⟨h.1, by omega⟩
  refine ⟨hw, ifS H (fun h H => m_in_ok hm (by omega) hw (rI_small (by omega) (by omega)) (rI_small (by omega) (by omega)) (ifS H (fun h H => ?_) (fun h H => ⟨_, rfl, _, _, rfl, rfl, H _ hs⟩))) (fun h H => ?_)⟩
  · have h := of_decide_eq_true h
    exact m_ofAsking_ok hm (by omega) hu2 hk8 ⟨h.1, by omega⟩ ⟨_, rfl, _, _, rfl, rfl, H _ hs⟩
  · have hq1 := (hB.2.2 k hk8.1 (by omega))
    have hqw : 0 ≤ q_words (S.2.2 7) u k ∧ q_words (S.2.2 7) u k ≤ 4 := by
      unfold q_words
      split
      · rename_i h9
        have := hq1.2.1 h9
        omega
      · split
        · omega
        · split <;> omega
    refine m_wordsOf_ok hm (by omega) hu2 hB hk8 ⟨rI_small (by show -1000000000 ≤ q_words (S.2.2 7) u k; omega) (by show q_words (S.2.2 7) u k ≤ 1000000000; omega), by have := hw.2; constructor <;> omega, ifS H (fun h H => ⟨_, rfl, _, _, rfl, rfl, H _ hs⟩) (fun h H => ?_)⟩
    have h9 : ¬ q_words (S.2.2 7) u k ≤ w - 10 := h
    exact m_ofAsking_ok hm (by omega) hu2 hk8 ⟨by omega, by omega⟩ ⟨_, rfl, _, _, rfl, rfl, H _ hs⟩
theorem m_beginsAt_ok {k a v p : Int} {K : Bool → tw_S → Prop} (hm : pw_base E ≤ m) (hA : a_ok (S.2.2 9) (S.1 24)) (hu : 0 ≤ S.1 28 ∧ S.1 28 ≤ 1) (hB : q_ok (S.2.2 7) (S.1 28)) (hd : 4 ≤ d) (hk : 0 ≤ k ∧ k < q_n (S.2.2 7) (S.1 28)) (h0 : q_at (S.2.2 7) (S.1 28) k 0 = 0) (ha : 0 ≤ a ∧ a < 4) (hv : 0 ≤ v ∧ v < a_many (S.2.2 9) a) (hp : 0 ≤ p ∧ p < a_long (S.2.2 9) a v) (H : K (q_begins (S.2.2 9) (S.2.2 7) (S.1 28) k a v p) S) : pw_Cl E m_X2_beginsAt d [va_rf (some m), .int (iI k), .int (iI a), .int (iI v), .int (iI p)] (tw w0 m S) (c_z (t_b w0 m K)) := by
  obtain ⟨e, rfl, he⟩ := pw_d1 hd
  have hv10 := (hA.2.2.1 a ha.1 ha.2).2
  have hl := hA.2.2.2.1 a v ha.1 ha.2 hv.1 (by omega)
  have hk8 : 0 ≤ k ∧ k < 8 := ⟨hk.1, by have := hB.1; omega⟩
  have hn := (hB.2.2 k hk.1 hk.2).2.1 h0
  have loop : ∀ (f i : Nat) (x : Bool), (i : Int) + f = q_at (S.2.2 7) (S.1 28) k 1 → (x = true → p + q_at (S.2.2 7) (S.1 28) k 1 ≤ a_long (S.2.2 9) a v) → K (x && (List.range' i f).all (fun i => decide (a_wordAt (S.2.2 9) a v (p + i) = q_at (S.2.2 7) (S.1 28) k (3 + i)))) S → pw_Wp E m_X2_beginsAt (e + 1) 32 [some (va_rf (some m)), some (.int (iI k)), some (.int (iI a)), some (.int (iI v)), some (.int (iI p)), some (.int (iI (q_at (S.2.2 7) (S.1 28) k 1))), some (.int (iI (b01 x))), some (.int (iI i))] [] (tw w0 m S) (c_z (t_b w0 m K)) := by
    intro f
    induction f with
    | zero =>
      intro i x hi hx H
      refine t_X2_beginsAt_32 hm _ _ _ _ _ _ _ ⟨rI_small (by omega) (by omega), rI_small (by omega) (by omega), ?_⟩
      rw [if_pos (by omega)]
      refine ⟨b01_r x, x, by rw [b01_I], S, rfl, ?_⟩
      rw [List.range'_zero, List.all_nil, Bool.and_true] at H
      exact H
    | succ f ih =>
      intro i x hi hx H
      refine t_X2_beginsAt_32 hm _ _ _ _ _ _ _ ⟨rI_small (by omega) (by omega), rI_small (by omega) (by omega), ?_⟩
      rw [if_neg (by omega)]
      refine ⟨b01_rI x, ?_⟩
      cases x with
      | false =>
        rw [if_pos (show b01 false = 0 from rfl)]
        exact ⟨Or.inl rfl, false, rfl, S, rfl, H⟩
      | true =>
        rw [if_neg (by decide)]
        have hlk := hx rfl
        have hw3 := hB.2.1 k (3 + i) hk8.1 hk8.2 (by omega) (by omega)
        refine m_wordAt_ok hm hA (by omega) ha hv ⟨by omega, by omega⟩ (m_ofAsking_ok hm (by omega) hu hk8 ⟨by omega, by omega⟩ ⟨a_wordAt_r hA ha hv ⟨by omega, by omega⟩, rI_small (by omega) (by omega), ?_⟩)
        rw [List.range'_succ, List.all_cons, Bool.true_and] at H
        by_cases h : a_wordAt (S.2.2 9) a v (p + i) = q_at (S.2.2 7) (S.1 28) k (3 + i)
        · rw [if_pos h]
          rw [decide_eq_true h] at H
          exact ih (i + 1) true (by omega) hx H
        · rw [if_neg h]
          rw [decide_eq_false h] at H
          exact ih (i + 1) false (by omega) (fun h => by cases h) H
  refine e_X2_beginsAt _ _ _ _ _ (t_X2_beginsAt_0 hm _ _ _ _ (m_ofAsking_ok hm (by omega) hu hk8 ⟨by omega, by omega⟩ (m_longOf_ok hm (by omega) ha ⟨hv.1, by omega⟩ ⟨rI_small (by omega) (by omega), rI_small (by omega) (by omega), ?_⟩)))
  unfold q_begins at H
  rw [List.range_eq_range'] at H
  by_cases h : p + q_at (S.2.2 7) (S.1 28) k 1 ≤ a_long (S.2.2 9) a v
  · rw [if_neg (by omega)]
    rw [decide_eq_true h] at H
    exact loop _ 0 true (by omega) (fun _ => h) H
  · rw [if_pos (by omega)]
    rw [decide_eq_false h] at H
    exact loop (q_at (S.2.2 7) (S.1 28) k 1).toNat 0 false (by omega) (fun h => by cases h) H
theorem m_timesOf_ok {k a v : Int} {K : Int → tw_S → Prop} (hm : pw_base E ≤ m) (hA : a_ok (S.2.2 9) (S.1 24)) (hu : 0 ≤ S.1 28 ∧ S.1 28 ≤ 1) (hB : q_ok (S.2.2 7) (S.1 28)) (hd : 5 ≤ d) (hk : 0 ≤ k ∧ k < q_n (S.2.2 7) (S.1 28)) (h0 : q_at (S.2.2 7) (S.1 28) k 0 = 0) (ha : 0 ≤ a ∧ a < 4) (hv : 0 ≤ v ∧ v < a_many (S.2.2 9) a) (H : K (q_times (S.2.2 9) (S.2.2 7) (S.1 28) k a v) S) : pw_Cl E m_X2_timesOf d [va_rf (some m), .int (iI k), .int (iI a), .int (iI v)] (tw w0 m S) (c_i (t_i w0 m K)) := by
  obtain ⟨e, rfl, he⟩ := pw_d1 hd
  have hv10 := (hA.2.2.1 a ha.1 ha.2).2
  have hl := hA.2.2.2.1 a v ha.1 ha.2 hv.1 (by omega)
  refine e_X2_timesOf _ _ _ _ (t_X2_timesOf_0 hm _ _ _ (loop_up (n := (a_long (S.2.2 9) a v).toNat) (P := fun p => pw_Wp E m_X2_timesOf (e + 1) 6 [some (va_rf (some m)), some (.int (iI k)), some (.int (iI a)), some (.int (iI v)), some (.int (iI (upto p (fun p (n : Int) => n + (if q_begins (S.2.2 9) (S.2.2 7) (S.1 28) k a v p = true then 1 else 0)) 0))), some (.int (iI p))] [] (tw w0 m S) _) ?_ ?_ 0 (by omega)))
  · intro p hp ih
    rw [upto_s] at ih
    refine t_X2_timesOf_6 hm _ _ _ _ _ (m_longOf_ok hm (by omega) ha ⟨hv.1, by omega⟩ ⟨rI_small (by omega) (by omega), rI_small (by omega) (by omega), ?_⟩)
    rw [if_neg (by omega)]
    refine m_beginsAt_ok hm hA hu hB (by omega) hk h0 ha hv ⟨by omega, by omega⟩ ?_
    by_cases h : q_begins (S.2.2 9) (S.2.2 7) (S.1 28) k a v p = true
    · rw [if_pos h]
      rw [if_pos h] at ih
      exact ih
    · rw [if_neg h]
      rw [if_neg h] at ih
      exact ih
  · refine t_X2_timesOf_6 hm _ _ _ _ _ (m_longOf_ok hm (by omega) ha ⟨hv.1, by omega⟩ ⟨rI_small (by omega) (by omega), rI_small (by omega) (by omega), ?_⟩)
    rw [if_pos (by omega)]
    exact ⟨_, rfl, _, S, rfl, rfl, H⟩
theorem m_areNear_ok {k a v : Int} {K : Bool → tw_S → Prop} (hm : pw_base E ≤ m) (hA : a_ok (S.2.2 9) (S.1 24)) (hu : 0 ≤ S.1 28 ∧ S.1 28 ≤ 1) (hB : q_ok (S.2.2 7) (S.1 28)) (hd : 4 ≤ d) (hk : 0 ≤ k ∧ k < 8) (ha : 0 ≤ a ∧ a < 4) (hv : 0 ≤ v ∧ v < a_many (S.2.2 9) a) (H : K (q_near (S.2.2 9) (S.2.2 7) (S.1 28) k a v) S) : pw_Cl E m_X2_areNear d [va_rf (some m), .int (iI k), .int (iI a), .int (iI v)] (tw w0 m S) (c_z (t_b w0 m K)) := by
  obtain ⟨e, rfl, he⟩ := pw_d1 hd
  have hv10 := (hA.2.2.1 a ha.1 ha.2).2
  have hl := hA.2.2.2.1 a v ha.1 ha.2 hv.1 (by omega)
  have q1 := hB.2.1 k 1 hk.1 hk.2 (by omega) (by omega)
  have q3 := hB.2.1 k 3 hk.1 hk.2 (by omega) (by omega)
  have q4 := hB.2.1 k 4 hk.1 hk.2 (by omega) (by omega)
  refine e_X2_areNear _ _ _ _ (t_X2_areNear_0 hm _ _ _ (loop_up (n := (a_long (S.2.2 9) a v).toNat) (P := fun p => pw_Wp E m_X2_areNear (e + 1) 6 [some (va_rf (some m)), some (.int (iI k)), some (.int (iI a)), some (.int (iI v)), some (.int (iI (b01 (upto p (fun p b => upto (a_long (S.2.2 9) a v).toNat (fun e b => b || q_near1 (S.2.2 9) (S.2.2 7) (S.1 28) k a v p e) b) false)))), some (.int (iI p)), none, none] [] (tw w0 m S) (c_z (t_b w0 m K))) ?_ ?_ 0 (by omega)))
  · intro p hp ih
    rw [upto_s] at ih
    refine t_X2_areNear_6 hm _ _ _ _ _ (m_longOf_ok hm (by omega) ha ⟨hv.1, by omega⟩ ⟨rI_small (by omega) (by omega), rI_small (by omega) (by omega), ?_⟩)
    rw [if_neg (by omega)]
    generalize upto p (fun p b => upto (a_long (S.2.2 9) a v).toNat (fun e b => b || q_near1 (S.2.2 9) (S.2.2 7) (S.1 28) k a v p e) b) false = x0 at *
    refine loop_up (n := (a_long (S.2.2 9) a v).toNat) (P := fun z => pw_Wp E m_X2_areNear (e + 1) 20 [some (va_rf (some m)), some (.int (iI k)), some (.int (iI a)), some (.int (iI v)), some (.int (iI (b01 (upto z (fun e b => b || q_near1 (S.2.2 9) (S.2.2 7) (S.1 28) k a v p e) x0)))), some (.int (iI p)), some (.int (iI z)), none] [] (tw w0 m S) (c_z (t_b w0 m K))) ?_ ?_ 0 (by omega)
    · intro z hz iz
      rw [upto_s] at iz
      generalize upto z (fun e b => b || q_near1 (S.2.2 9) (S.2.2 7) (S.1 28) k a v p e) x0 = x1 at *
      refine t_X2_areNear_20 hm _ _ _ _ _ _ (m_longOf_ok hm (by omega) ha ⟨hv.1, by omega⟩ ⟨rI_small (by omega) (by omega), rI_small (by omega) (by omega), ?_⟩)
      rw [if_neg (by omega)]
      refine ⟨rI_small (by omega) (by omega), rI_small (by omega) (by omega), ?_⟩
      have wp : rI (a_wordAt (S.2.2 9) a v p) := a_wordAt_r hA ha hv ⟨by omega, by omega⟩
      have wz : rI (a_wordAt (S.2.2 9) a v z) := a_wordAt_r hA ha hv ⟨by omega, by omega⟩
      by_cases hzp : (z : Int) ≤ p
      · rw [if_pos hzp]
        refine ⟨b01_rI x1, ?_⟩
        cases hx : x1 with
        | false =>
          rw [if_pos (show b01 false = 0 from rfl)]
          have hf : (p : Int) - z = (if (z : Int) ≤ p then (p : Int) - z else (z : Int) - p) := by rw [if_pos hzp]
          rw [hx, Bool.false_or] at iz
          unfold q_near1 at iz
          rw [← hf] at iz
          refine m_ofAsking_ok hm (by omega) hu hk ⟨by omega, by omega⟩ (m_in_ok hm (by omega) (rI_small (by omega) (by omega)) (rI_small (by omega) (by omega)) (rI_small (by omega) (by omega)) ?_)
          by_cases h1 : 1 ≤ (p : Int) - z ∧ (p : Int) - z ≤ q_at (S.2.2 7) (S.1 28) k 1
          · rw [if_pos (decide_eq_true h1)]
            rw [decide_eq_true h1, Bool.true_and] at iz
            refine m_wordAt_ok hm hA (by omega) ha hv ⟨by omega, by omega⟩ (m_ofAsking_ok hm (by omega) hu hk ⟨by omega, by omega⟩ ⟨wp, rI_small (by omega) (by omega), ?_⟩)
            by_cases h2 : a_wordAt (S.2.2 9) a v p = q_at (S.2.2 7) (S.1 28) k 3
            · rw [if_pos h2]
              rw [decide_eq_true h2, Bool.true_and] at iz
              refine m_wordAt_ok hm hA (by omega) ha hv ⟨by omega, by omega⟩ (m_ofAsking_ok hm (by omega) hu hk ⟨by omega, by omega⟩ ⟨wz, rI_small (by omega) (by omega), ?_⟩)
              by_cases h3 : a_wordAt (S.2.2 9) a v z = q_at (S.2.2 7) (S.1 28) k 4
              · rw [if_pos h3]
                rw [decide_eq_true h3] at iz
                exact iz
              · rw [if_neg h3]
                rw [decide_eq_false h3] at iz
                exact iz
            · rw [if_neg h2]
              rw [decide_eq_false h2, Bool.false_and] at iz
              exact iz
          · rw [if_neg (by rw [decide_eq_false h1]; decide)]
            rw [decide_eq_false h1, Bool.false_and] at iz
            exact iz
        | true =>
          rw [if_neg (by decide)]
          rw [hx, Bool.true_or] at iz
          exact iz
      · rw [if_neg hzp]
        refine ⟨b01_rI x1, ?_⟩
        cases hx : x1 with
        | false =>
          rw [if_pos (show b01 false = 0 from rfl)]
          have hf : (z : Int) - p = (if (z : Int) ≤ p then (p : Int) - z else (z : Int) - p) := by rw [if_neg hzp]
          rw [hx, Bool.false_or] at iz
          unfold q_near1 at iz
          rw [← hf] at iz
          refine m_ofAsking_ok hm (by omega) hu hk ⟨by omega, by omega⟩ (m_in_ok hm (by omega) (rI_small (by omega) (by omega)) (rI_small (by omega) (by omega)) (rI_small (by omega) (by omega)) ?_)
          by_cases h1 : 1 ≤ (z : Int) - p ∧ (z : Int) - p ≤ q_at (S.2.2 7) (S.1 28) k 1
          · rw [if_pos (decide_eq_true h1)]
            rw [decide_eq_true h1, Bool.true_and] at iz
            refine m_wordAt_ok hm hA (by omega) ha hv ⟨by omega, by omega⟩ (m_ofAsking_ok hm (by omega) hu hk ⟨by omega, by omega⟩ ⟨wp, rI_small (by omega) (by omega), ?_⟩)
            by_cases h2 : a_wordAt (S.2.2 9) a v p = q_at (S.2.2 7) (S.1 28) k 3
            · rw [if_pos h2]
              rw [decide_eq_true h2, Bool.true_and] at iz
              refine m_wordAt_ok hm hA (by omega) ha hv ⟨by omega, by omega⟩ (m_ofAsking_ok hm (by omega) hu hk ⟨by omega, by omega⟩ ⟨wz, rI_small (by omega) (by omega), ?_⟩)
              by_cases h3 : a_wordAt (S.2.2 9) a v z = q_at (S.2.2 7) (S.1 28) k 4
              · rw [if_pos h3]
                rw [decide_eq_true h3] at iz
                exact iz
              · rw [if_neg h3]
                rw [decide_eq_false h3] at iz
                exact iz
            · rw [if_neg h2]
              rw [decide_eq_false h2, Bool.false_and] at iz
              exact iz
          · rw [if_neg (by rw [decide_eq_false h1]; decide)]
            rw [decide_eq_false h1, Bool.false_and] at iz
            exact iz
        | true =>
          rw [if_neg (by decide)]
          rw [hx, Bool.true_or] at iz
          exact iz
    · refine t_X2_areNear_20 hm _ _ _ _ _ _ (m_longOf_ok hm (by omega) ha ⟨hv.1, by omega⟩ ⟨rI_small (by omega) (by omega), rI_small (by omega) (by omega), ?_⟩)
      rw [if_pos (by omega)]
      exact ih
  · refine t_X2_areNear_6 hm _ _ _ _ _ (m_longOf_ok hm (by omega) ha ⟨hv.1, by omega⟩ ⟨rI_small (by omega) (by omega), rI_small (by omega) (by omega), ?_⟩)
    rw [if_pos (by omega)]
    exact ⟨b01_r _, _, by rw [b01_I]; rfl, S, rfl, H⟩
end
