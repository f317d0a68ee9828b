set_option maxRecDepth 100000
/-! the twin: what is found by laid questions -/
/-- the sets T of the questions at hand are laid -/
def q_laid (S : tw_S) (T : Int → Int → Int) : Prop := ∀ k a : Int, 0 ≤ k → k < q_n (S.2.2 7) (S.1 28) → 0 ≤ a → a < 4 → S.2.2 14 (Int.toNat (4 * k + a)) = T k a ∧ rI (T k a)
def q_docs (A : Nat → Int) (T : Int → Int → Int) (k : Int) (al : Bool) : Int := upto (A 0).toNat (fun d s => if (if al = true then decide (s_ones (T k d) = a_many A d) else !decide (T k d = 0)) = true then s_or s (s_bit d) else s_or s 0) 0
def q_asV (A : Nat → Int) (d t : Int) : Int := upto (a_many A d).toNat (fun v l => if t < A (Int.toNat (6 + (10 * d + v))) then l else (v : Int)) (-1)
def q_asOf (A : Nat → Int) (T : Int → Int → Int) (k t : Int) : Int := upto (A 0).toNat (fun d s => if (!decide (q_asV A d t = -1) && s_has (T k d) (q_asV A d t)) = true then s_or s (s_bit d) else s_or s 0) 0
def q_chgF (A : Nat → Int) (T : Int → Int → Int) (k i : Int) : Nat → Int → Int → Nat → Int
  | 0, n, _, _ => if i = -1 then n else -1
  | f + 1, n, was, t => if q_asOf A T k t = was then q_chgF A T k i f n (q_asOf A T k t) (t + 1) else if n = i then t else q_chgF A T k i f (n + 1) (q_asOf A T k t) (t + 1)
def q_chg (A : Nat → Int) (T : Int → Int → Int) (k i : Int) : Int := q_chgF A T k i 100 0 0 0
def q_sum (A : Nat → Int) (T : Int → Int → Int) (k : Int) : Int := upto (A 0).toNat (fun d n => n + s_ones (T k d)) 0
def q_rankOf (A : Nat → Int) (T : Int → Int → Int) (k d : Int) : Int := 2 * s_ones (T k d) + (if s_has (T k d) (a_many A d - 1) = true then 1 else 0)
def q_ahead (A : Nat → Int) (T : Int → Int → Int) (k d : Int) : Int := upto (A 0).toNat (fun e n => if q_rankOf A T k d < q_rankOf A T k e then n + 1 else if q_rankOf A T k e = q_rankOf A T k d then (if d ≤ e then n + 0 else n + 1) else n + 0) 0
def q_rankF (A : Nat → Int) (T : Int → Int → Int) (k i : Int) : Nat → Nat → Int
  | 0, _ => -1
  | f + 1, d => if q_ahead A T k d = i then d else q_rankF A T k i f (d + 1)
def q_found (A : Nat → Int) (T : Int → Int → Int) (k w : Int) : Int := if 0 ≤ w then (if w < 100 then (if w < 10 then (if w = 0 then (if w = 1 then q_docs A T k true else q_docs A T k false) else if w = 1 then (if w = 1 then q_docs A T k true else q_docs A T k false) else if w = 2 then q_chg A T k (-1) else if w = 3 then q_sum A T k else -1) else q_rankF A T k (w - 10) (A 0).toNat 0) else if 200 ≤ w then q_chg A T k (w - 200) else q_asOf A T k (w - 100)) else -1
def s_andn (x y : Int) : Int := Int32.toInt (iI x &&& (iI y ^^^ (-1)))
def q_within (A : Nat → Int) (T : Int → Int → Int) (a b : Int) : Bool := upto (A 0).toNat (fun d x => x && decide (s_andn (T a d) (T b d) = 0)) true
def q_best (A : Nat → Int) (T : Int → Int → Int) (n : Int) : Int := upto n.toNat (fun k b => if b = -1 then (k : Int) else if q_sum A T k ≤ q_sum A T b then b else (k : Int)) (-1)
def q_pairs (A : Nat → Int) (T : Int → Int → Int) (n : Int) : Int := upto n.toNat (fun a c => upto a (fun b (c : Int) => c + (if (q_within A T a b && q_within A T b a) = true then 1 else 0)) c) 0
def q_span (x s : Int) (l : Bool) : Nat → Nat → Int → Int
  | 0, _, _ => -1
  | f + 1, v, n => if (s_has x v && ((if l = true then !s_has x ((v : Int) + 1) else (decide ((v : Int) = 0) || !s_has x ((v : Int) - 1))) && decide (n + (if (s_has x v && (decide ((v : Int) = 0) || !s_has x ((v : Int) - 1))) = true then 1 else 0) = s))) = true then v else q_span x s l f (v + 1) (n + (if (s_has x v && (decide ((v : Int) = 0) || !s_has x ((v : Int) - 1))) = true then 1 else 0))
theorem q_sum_r {A : Nat → Int} (T : Int → Int → Int) (k : Int) (h : A 0 ≤ 4) : 0 ≤ q_sum A T k ∧ q_sum A T k ≤ 40 := by
  have : ∀ n : Nat, 0 ≤ upto n (fun d (n : Int) => n + s_ones (T k d)) 0 ∧ upto n (fun d (n : Int) => n + s_ones (T k d)) 0 ≤ 10 * n := by
    intro n
    induction n with
    | zero => exact ⟨Int.le_refl 0, Int.le_refl 0⟩
    | succ n ih =>
      have := s_ones_r (T k n)
      rw [upto_s]
      omega
  have := this (A 0).toNat
  unfold q_sum
  omega
theorem q_docs_ri (n : Nat) (f : Nat → Int → Bool) : rI (upto n (fun d (s : Int) => if f d s = true then s_or s (s_bit d) else s_or s 0) 0) := by
  refine upto_ind (Q := rI) (by constructor <;> omega) _ (fun k a _ _ => ?_)
  split
  · exact rI_or _ _
  · exact rI_or _ _
theorem q_asOf_r (A : Nat → Int) (T : Int → Int → Int) (k t : Int) : rI (q_asOf A T k t) := q_docs_ri (A 0).toNat (fun d _ => !decide (q_asV A d t = -1) && s_has (T k d) (q_asV A d t))
theorem q_asV_n (A : Nat → Int) (d t : Int) (n : Nat) : -1 ≤ upto n (fun v l => if t < A (Int.toNat (6 + (10 * d + v))) then l else (v : Int)) (-1) ∧ upto n (fun v l => if t < A (Int.toNat (6 + (10 * d + v))) then l else (v : Int)) (-1) < n := by
  induction n with
  | zero => exact ⟨Int.le_refl _, by show (-1 : Int) < 0; omega⟩
  | succ n ih =>
    rw [upto_s]
    split <;> omega
theorem q_rankOf_r (A : Nat → Int) (T : Int → Int → Int) (k d : Int) : 0 ≤ q_rankOf A T k d ∧ q_rankOf A T k d ≤ 21 := by
  have := s_ones_r (T k d)
  unfold q_rankOf
  split <;> omega
section
variable {E : pw_E} {w0 : pw_W} {m d : Nat} {S : tw_S} {T : Int → Int → Int}
theorem m_docsBy_ok {k : Int} {al : Bool} {K : Int → tw_S → Prop} (hm : pw_base E ≤ m) (hA : a_ok (S.2.2 9) (S.1 24)) (hL : q_laid S T) (hd : 3 ≤ d) (hk : 0 ≤ k ∧ k < q_n (S.2.2 7) (S.1 28)) (hk8 : k < 8) (H : K (q_docs (S.2.2 9) T k al) S) : pw_Cl E m_X2_docsBy d [va_rf (some m), .int (iI k), .int (bI al)] (tw w0 m S) (c_i (t_i w0 m K)) := by
  obtain ⟨e, rfl, he⟩ := pw_d1 hd
  have h0 := hA.1
  refine e_X2_docsBy _ _ _ (t_X2_docsBy_0 hm _ _ (loop_up (n := (S.2.2 9 0).toNat) (P := fun a => pw_Wp E m_X2_docsBy (e + 1) 5 [some (va_rf (some m)), some (.int (iI k)), some (.int (bI al)), some (.int (iI (upto a (fun d s => if (if al = true then decide (s_ones (T k d) = a_many (S.2.2 9) d) else !decide (T k d = 0)) = true then s_or s (s_bit d) else s_or s 0) 0))), some (.int (iI a)), none] [] (tw w0 m S) (c_i (t_i w0 m K))) ?_ ?_ 0 (by omega)))
  · intro a ha ih
    rw [upto_s] at ih
    obtain ⟨l1, l2⟩ := hL k a hk.1 hk.2 (by omega) (by omega)
    have hmy := hA.2.2.1 a (by omega) (by omega)
    refine t_X2_docsBy_5 hm _ _ _ _ ⟨rI_small (by omega) (by omega), rI_small (by omega) (by omega), ?_⟩
    rw [if_neg (by omega)]
    refine ⟨by omega, by omega, ?_⟩
    rw [l1]
    cases al with
    | true =>
      rw [if_pos rfl]
      rw [if_pos rfl] at ih
      have ho := s_ones_r (T k a)
      refine m_ones_ok hm (by omega) (m_versions_ok hm (by omega) ⟨by omega, by omega⟩ ⟨rI_small (by omega) (by omega), rI_small (by omega) (by omega), ?_⟩)
      by_cases h : s_ones (T k a) = a_many (S.2.2 9) a
      · rw [if_pos h, s_orE]
        rw [if_pos (decide_eq_true h)] at ih
        exact ih
      · rw [if_neg h]
        rw [if_neg (by rw [decide_eq_false h]; decide)] at ih
        exact ih
    | false =>
      rw [if_neg (by decide)]
      rw [if_neg (show ¬ (false = true) by decide)] at ih
      refine ⟨l2, ?_⟩
      by_cases h : T k a = 0
      · rw [if_pos h]
        rw [if_neg (by rw [decide_eq_true h]; decide)] at ih
        exact ih
      · rw [if_neg h, s_orE]
        rw [if_pos (by rw [decide_eq_false h]; decide)] at ih
        exact ih
  · refine t_X2_docsBy_5 hm _ _ _ _ ⟨rI_small (by omega) (by omega), rI_small (by omega) (by omega), ?_⟩
    rw [if_pos (by omega)]
    exact ⟨_, rfl, _, S, rfl, rfl, H⟩
theorem m_asOf_ok {k t : Int} {K : Int → tw_S → Prop} (hm : pw_base E ≤ m) (hA : a_ok (S.2.2 9) (S.1 24)) (hD : ∀ i : Nat, i < 40 → rI (S.2.2 9 (6 + i))) (hL : q_laid S T) (hd : 2 ≤ d) (hk : 0 ≤ k ∧ k < q_n (S.2.2 7) (S.1 28)) (hk8 : k < 8) (ht : rI t) (H : K (q_asOf (S.2.2 9) T k t) S) : pw_Cl E m_X2_asOf d [va_rf (some m), .int (iI k), .int (iI t)] (tw w0 m S) (c_i (t_i w0 m K)) := by
  obtain ⟨e, rfl, he⟩ := pw_d1 hd
  have h0 := hA.1
  refine e_X2_asOf _ _ _ (t_X2_asOf_0 hm _ _ (loop_up (n := (S.2.2 9 0).toNat) (P := fun a => pw_Wp E m_X2_asOf (e + 1) 5 [some (va_rf (some m)), some (.int (iI k)), some (.int (iI t)), some (.int (iI (upto a (fun d s => if (!decide (q_asV (S.2.2 9) d t = -1) && s_has (T k d) (q_asV (S.2.2 9) d t)) = true then s_or s (s_bit d) else s_or s 0) 0))), some (.int (iI a)), none, none] [] (tw w0 m S) (c_i (t_i w0 m K))) ?_ ?_ 0 (by omega)))
  · intro a ha ih
    rw [upto_s] at ih
    obtain ⟨l1, l2⟩ := hL k a hk.1 hk.2 (by omega) (by omega)
    have ha4 : 0 ≤ (a : Int) ∧ (a : Int) < 4 := ⟨by omega, by omega⟩
    have hmy := hA.2.2.1 a ha4.1 ha4.2
    refine t_X2_asOf_5 hm _ _ _ _ ⟨rI_small (by omega) (by omega), rI_small (by omega) (by omega), ?_⟩
    rw [if_neg (by omega)]
    refine loop_up (n := (a_many (S.2.2 9) a).toNat) (P := fun v => pw_Wp E m_X2_asOf (e + 1) 22 [some (va_rf (some m)), some (.int (iI k)), some (.int (iI t)), some (.int (iI _)), some (.int (iI a)), some (.int (iI (upto v (fun v l => if t < S.2.2 9 (Int.toNat (6 + (10 * (a : Int) + v))) then l else (v : Int)) (-1)))), some (.int (iI v))] [] (tw w0 m S) (c_i (t_i w0 m K))) ?_ ?_ 0 (by omega)
    · intro v hv iv
      rw [upto_s] at iv
      refine t_X2_asOf_22 hm _ _ _ _ _ _ (m_versions_ok hm (by omega) ha4 ⟨rI_small (by omega) (by omega), rI_small (by omega) (by omega), ?_⟩)
      rw [if_neg (by omega)]
      refine m_at_ok hm (by omega) ⟨by omega, by omega, ht, ?_, ?_⟩
      · rw [show Int.toNat (6 + (10 * (a : Int) + (v : Int))) = 6 + (10 * a + v) by omega]
        exact hD _ (by omega)
      · by_cases h : t < S.2.2 9 (Int.toNat (6 + (10 * (a : Int) + (v : Int))))
        · rw [if_pos h]
          rw [if_pos h] at iv
          exact iv
        · rw [if_neg h]
          rw [if_neg h] at iv
          exact iv
    · refine t_X2_asOf_22 hm _ _ _ _ _ _ (m_versions_ok hm (by omega) ha4 ⟨rI_small (by omega) (by omega), rI_small (by omega) (by omega), ?_⟩)
      rw [if_pos (by omega)]
      have hv := q_asV_n (S.2.2 9) a t (a_many (S.2.2 9) a).toNat
      have ev : upto (a_many (S.2.2 9) a).toNat (fun v l => if t < S.2.2 9 (Int.toNat (6 + (10 * (a : Int) + v))) then l else (v : Int)) (-1) = q_asV (S.2.2 9) a t := rfl
      rw [ev] at hv ⊢
      refine ⟨rI_small (by omega) (by omega), ?_⟩
      by_cases h : q_asV (S.2.2 9) a t = -1
      · rw [if_pos h]
        rw [if_neg (by rw [decide_eq_true h]; simp)] at ih
        exact ih
      · rw [if_neg h]
        rw [decide_eq_false h, Bool.not_false, Bool.true_and] at ih
        refine ⟨by omega, by omega, ?_⟩
        rw [l1]
        refine m_has_ok (by omega) ?_
        cases hb : s_has (T k a) (q_asV (S.2.2 9) a t) with
        | true =>
          rw [if_pos rfl, s_orE]
          rw [if_pos hb] at ih
          exact ih
        | false =>
          rw [if_neg (by decide)]
          rw [if_neg (by rw [hb]; decide)] at ih
          exact ih
  · refine t_X2_asOf_5 hm _ _ _ _ ⟨rI_small (by omega) (by omega), rI_small (by omega) (by omega), ?_⟩
    rw [if_pos (by omega)]
    exact ⟨_, rfl, _, S, rfl, rfl, H⟩
theorem m_changes_ok {k i : Int} {K : Int → tw_S → Prop} (hm : pw_base E ≤ m) (hA : a_ok (S.2.2 9) (S.1 24)) (hD : ∀ i : Nat, i < 40 → rI (S.2.2 9 (6 + i))) (hL : q_laid S T) (hd : 3 ≤ d) (hk : 0 ≤ k ∧ k < q_n (S.2.2 7) (S.1 28)) (hk8 : k < 8) (hi : rI i) (H : K (q_chg (S.2.2 9) T k i) S) : pw_Cl E m_X2_changes d [va_rf (some m), .int (iI k), .int (iI i)] (tw w0 m S) (c_i (t_i w0 m K)) := by
  obtain ⟨e, rfl, he⟩ := pw_d1 hd
  have loop : ∀ (f t : Nat) (n was : Int), t + f = 100 → (0 ≤ n ∧ n ≤ t) → rI was → K (q_chgF (S.2.2 9) T k i f n was t) S → pw_Wp E m_X2_changes (e + 1) 8 [some (va_rf (some m)), some (.int (iI k)), some (.int (iI i)), some (.int (iI n)), some (.int (iI was)), some (.int (iI t)), none] [] (tw w0 m S) (c_i (t_i w0 m K)) := by
    intro f
    induction f with
    | zero =>
      intro t n was ht hn hw H
      refine t_X2_changes_8 hm _ _ _ _ _ ⟨rI_small (by omega) (by omega), ?_⟩
      rw [if_pos (by omega)]
      unfold q_chgF at H
      exact ⟨hi, ifS2 H (fun h H => ⟨_, rfl, _, S, rfl, rfl, H⟩) (fun h H => ⟨_, rfl, _, S, rfl, rfl, H⟩)⟩
    | succ f ih =>
      intro t n was ht hn hw H
      refine t_X2_changes_8 hm _ _ _ _ _ ⟨rI_small (by omega) (by omega), ?_⟩
      rw [if_neg (by omega)]
      unfold q_chgF at H
      refine m_asOf_ok hm hA hD hL (by omega) hk hk8 (rI_small (by omega) (by omega)) ⟨q_asOf_r _ _ _ _, hw, ifS2 H (fun h H => ih (t + 1) _ _ (by omega) ⟨by omega, by omega⟩ (q_asOf_r _ _ _ _) H) (fun h H => ⟨rI_small (by omega) (by omega), hi, ifS2 H (fun h H => ⟨_, rfl, _, S, rfl, rfl, H⟩) (fun h H => ih (t + 1) _ _ (by omega) ⟨by omega, by omega⟩ (q_asOf_r _ _ _ _) H)⟩)⟩
  exact e_X2_changes _ _ _ (t_X2_changes_0 hm _ _ (loop 100 0 0 0 rfl ⟨Int.le_refl 0, Int.le_refl 0⟩ ⟨by decide, by decide⟩ H))
theorem m_versionsBy_ok {k : Int} {K : Int → tw_S → Prop} (hm : pw_base E ≤ m) (hA : a_ok (S.2.2 9) (S.1 24)) (hL : q_laid S T) (hd : 3 ≤ d) (hk : 0 ≤ k ∧ k < q_n (S.2.2 7) (S.1 28)) (hk8 : k < 8) (H : K (q_sum (S.2.2 9) T k) S) : pw_Cl E m_X2_versionsBy d [va_rf (some m), .int (iI k)] (tw w0 m S) (c_i (t_i w0 m K)) := by
  obtain ⟨e, rfl, he⟩ := pw_d1 hd
  have h0 := hA.1
  refine e_X2_versionsBy _ _ (t_X2_versionsBy_0 hm _ (loop_up (n := (S.2.2 9 0).toNat) (P := fun a => pw_Wp E m_X2_versionsBy (e + 1) 4 [some (va_rf (some m)), some (.int (iI k)), some (.int (iI (upto a (fun d n => n + s_ones (T k d)) 0))), some (.int (iI a))] [] (tw w0 m S) (c_i (t_i w0 m K))) ?_ ?_ 0 (by omega)))
  · intro a ha ih
    rw [upto_s] at ih
    obtain ⟨l1, l2⟩ := hL k a hk.1 hk.2 (by omega) (by omega)
    refine t_X2_versionsBy_4 hm _ _ _ ⟨rI_small (by omega) (by omega), rI_small (by omega) (by omega), ?_⟩
    rw [if_neg (by omega)]
    refine ⟨by omega, by omega, ?_⟩
    rw [l1]
    exact m_ones_ok hm (by omega) ih
  · refine t_X2_versionsBy_4 hm _ _ _ ⟨rI_small (by omega) (by omega), rI_small (by omega) (by omega), ?_⟩
    rw [if_pos (by omega)]
    exact ⟨_, rfl, _, S, rfl, rfl, H⟩
theorem m_rankOf_ok {k a : Int} {K : Int → tw_S → Prop} (hm : pw_base E ≤ m) (hL : q_laid S T) (hd : 3 ≤ d) (hk : 0 ≤ k ∧ k < q_n (S.2.2 7) (S.1 28)) (hk8 : k < 8) (ha : 0 ≤ a ∧ a < 4) (H : K (q_rankOf (S.2.2 9) T k a) S) : pw_Cl E m_X2_rankOf d [va_rf (some m), .int (iI k), .int (iI a)] (tw w0 m S) (c_i (t_i w0 m K)) := by
  obtain ⟨e, rfl, he⟩ := pw_d1 hd
  obtain ⟨l1, l2⟩ := hL k a hk.1 hk.2 ha.1 ha.2
  refine e_X2_rankOf _ _ _ (t_X2_rankOf_0 hm _ _ ⟨by omega, by omega, ?_⟩)
  rw [l1]
  refine m_ones_ok hm (by omega) ⟨by omega, by omega, m_versions_ok hm (by omega) ha ?_⟩
  rw [l1]
  refine m_has_ok (by omega) ?_
  unfold q_rankOf at H
  cases hb : s_has (T k a) (a_many (S.2.2 9) a - 1) with
  | true =>
    rw [if_pos rfl]
    rw [if_pos hb] at H
    exact ⟨_, rfl, _, S, rfl, rfl, H⟩
  | false =>
    rw [if_neg (by decide)]
    rw [if_neg (by rw [hb]; decide)] at H
    exact ⟨_, rfl, _, S, rfl, rfl, H⟩
theorem m_rank_ok {k i : Int} {K : Int → tw_S → Prop} (hm : pw_base E ≤ m) (hA : a_ok (S.2.2 9) (S.1 24)) (hL : q_laid S T) (hd : 4 ≤ d) (hk : 0 ≤ k ∧ k < q_n (S.2.2 7) (S.1 28)) (hk8 : k < 8) (hi : rI i) (H : K (q_rankF (S.2.2 9) T k i (S.2.2 9 0).toNat 0) S) : pw_Cl E m_X2_rank d [va_rf (some m), .int (iI k), .int (iI i)] (tw w0 m S) (c_i (t_i w0 m K)) := by
  obtain ⟨e, rfl, he⟩ := pw_d1 hd
  have h0 := hA.1
  have loop : ∀ (f a : Nat), (a : Int) + f = S.2.2 9 0 → K (q_rankF (S.2.2 9) T k i f a) S → pw_Wp E m_X2_rank (e + 1) 2 [some (va_rf (some m)), some (.int (iI k)), some (.int (iI i)), some (.int (iI a)), none, none] [] (tw w0 m S) (c_i (t_i w0 m K)) := by
    intro f
    induction f with
    | zero =>
      intro a ha H
      refine t_X2_rank_2 hm _ _ _ ⟨rI_small (by omega) (by omega), rI_small (by omega) (by omega), ?_⟩
      rw [if_pos (by omega)]
      exact ⟨_, rfl, _, S, rfl, rfl, H⟩
    | succ f ih =>
      intro a ha H
      refine t_X2_rank_2 hm _ _ _ ⟨rI_small (by omega) (by omega), rI_small (by omega) (by omega), ?_⟩
      rw [if_neg (by omega)]
      have ha4 : 0 ≤ (a : Int) ∧ (a : Int) < 4 := ⟨by omega, by omega⟩
      have ra := q_rankOf_r (S.2.2 9) T k a
      have hcnt : ∀ z : Nat, 0 ≤ upto z (fun e n => if q_rankOf (S.2.2 9) T k a < q_rankOf (S.2.2 9) T k e then n + 1 else if q_rankOf (S.2.2 9) T k e = q_rankOf (S.2.2 9) T k a then (if (a : Int) ≤ e then n + 0 else n + 1) else n + 0) (0 : Int) ∧ upto z (fun e n => if q_rankOf (S.2.2 9) T k a < q_rankOf (S.2.2 9) T k e then n + 1 else if q_rankOf (S.2.2 9) T k e = q_rankOf (S.2.2 9) T k a then (if (a : Int) ≤ e then n + 0 else n + 1) else n + 0) (0 : Int) ≤ z := by
        intro z
        induction z with
        | zero => exact ⟨Int.le_refl 0, Int.le_refl 0⟩
        | succ z iz =>
          rw [upto_s]
          split
          · omega
          · split
            · split <;> omega
            · omega
      refine loop_up (n := (S.2.2 9 0).toNat) (P := fun z => pw_Wp E m_X2_rank (e + 1) 18 [some (va_rf (some m)), some (.int (iI k)), some (.int (iI i)), some (.int (iI a)), some (.int (iI (upto z (fun e n => if q_rankOf (S.2.2 9) T k a < q_rankOf (S.2.2 9) T k e then n + 1 else if q_rankOf (S.2.2 9) T k e = q_rankOf (S.2.2 9) T k a then (if (a : Int) ≤ e then n + 0 else n + 1) else n + 0) (0 : Int)))), some (.int (iI z))] [] (tw w0 m S) (c_i (t_i w0 m K))) ?_ ?_ 0 (by omega)
      · intro z hz iz
        have hcz := hcnt z
        rw [upto_s] at iz
        generalize upto z (fun e n => if q_rankOf (S.2.2 9) T k a < q_rankOf (S.2.2 9) T k e then n + 1 else if q_rankOf (S.2.2 9) T k e = q_rankOf (S.2.2 9) T k a then (if (a : Int) ≤ e then n + 0 else n + 1) else n + 0) (0 : Int) = c at *
        have hz4 : 0 ≤ (z : Int) ∧ (z : Int) < 4 := ⟨by omega, by omega⟩
        have rz := q_rankOf_r (S.2.2 9) T k z
        refine t_X2_rank_18 hm _ _ _ _ _ ⟨rI_small (by omega) (by omega), rI_small (by omega) (by omega), ?_⟩
        rw [if_neg (by omega)]
        refine m_rankOf_ok hm hL (by omega) hk hk8 hz4 (m_rankOf_ok hm hL (by omega) hk hk8 ha4 ⟨rI_small (by omega) (by omega), rI_small (by omega) (by omega), ?_⟩)
        by_cases h1 : q_rankOf (S.2.2 9) T k a < q_rankOf (S.2.2 9) T k z
        · rw [if_pos h1]
          rw [if_pos h1] at iz
          exact iz
        · rw [if_neg h1]
          rw [if_neg h1] at iz
          refine m_rankOf_ok hm hL (by omega) hk hk8 hz4 (m_rankOf_ok hm hL (by omega) hk hk8 ha4 ⟨rI_small (by omega) (by omega), rI_small (by omega) (by omega), ?_⟩)
          by_cases h2 : q_rankOf (S.2.2 9) T k z = q_rankOf (S.2.2 9) T k a
          · rw [if_pos h2]
            rw [if_pos h2] at iz
            refine ⟨rI_small (by omega) (by omega), rI_small (by omega) (by omega), ?_⟩
            by_cases h3 : (a : Int) ≤ z
            · rw [if_pos h3]
              rw [if_pos h3] at iz
              exact iz
            · rw [if_neg h3]
              rw [if_neg h3] at iz
              exact iz
          · rw [if_neg h2]
            rw [if_neg h2] at iz
            exact iz
      · have hcz := hcnt (S.2.2 9 0).toNat
        refine t_X2_rank_18 hm _ _ _ _ _ ⟨rI_small (by omega) (by omega), rI_small (by omega) (by omega), ?_⟩
        rw [if_pos (by omega)]
        unfold q_rankF at H
        exact ⟨rI_small (by omega) (by omega), hi, ifS2 H (fun h H => ⟨_, rfl, _, S, rfl, rfl, H⟩) (fun h H => ih (a + 1) (by omega) H)⟩
  exact e_X2_rank _ _ _ (t_X2_rank_0 hm _ _ (loop _ 0 (by omega) H))
theorem m_isWithin_ok {a b : Int} {K : Bool → tw_S → Prop} (hm : pw_base E ≤ m) (hA : a_ok (S.2.2 9) (S.1 24)) (hL : q_laid S T) (hd : 1 ≤ d) (ha : 0 ≤ a ∧ a < q_n (S.2.2 7) (S.1 28)) (hb : 0 ≤ b ∧ b < q_n (S.2.2 7) (S.1 28)) (h8 : q_n (S.2.2 7) (S.1 28) ≤ 8) (H : K (q_within (S.2.2 9) T a b) S) : pw_Cl E m_X2_isWithin d [va_rf (some m), .int (iI a), .int (iI b)] (tw w0 m S) (c_z (t_b w0 m K)) := by
  obtain ⟨e, rfl, he⟩ := pw_d1 hd
  have h0 := hA.1
  refine e_X2_isWithin _ _ _ (t_X2_isWithin_0 hm _ _ (loop_up (n := (S.2.2 9 0).toNat) (P := fun z => pw_Wp E m_X2_isWithin (e + 1) 5 [some (va_rf (some m)), some (.int (iI a)), some (.int (iI b)), some (.int (iI (b01 (upto z (fun d x => x && decide (s_andn (T a d) (T b d) = 0)) true)))), some (.int (iI z))] [] (tw w0 m S) (c_z (t_b w0 m K))) ?_ ?_ 0 (by omega)))
  · intro z hz iz
    rw [upto_s] at iz
    obtain ⟨l1, l2⟩ := hL a z ha.1 ha.2 (by omega) (by omega)
    obtain ⟨l3, l4⟩ := hL b z hb.1 hb.2 (by omega) (by omega)
    generalize upto z (fun d x => x && decide (s_andn (T a d) (T b d) = 0)) true = x0 at *
    refine t_X2_isWithin_5 hm _ _ _ _ ⟨rI_small (by omega) (by omega), rI_small (by omega) (by omega), ?_⟩
    rw [if_neg (by omega)]
    refine ⟨b01_rI x0, ?_⟩
    cases x0 with
    | false =>
      rw [if_pos (show b01 false = 0 from rfl)]
      exact iz
    | true =>
      rw [if_neg (by decide)]
      refine ⟨by omega, by omega, by omega, by omega, ?_⟩
      rw [l1, l3]
      by_cases h : s_andn (T a z) (T b z) = 0
      · rw [decide_eq_true h] at iz
        unfold s_andn at h
        rw [if_pos h]
        exact iz
      · rw [decide_eq_false h] at iz
        unfold s_andn at h
        rw [if_neg h]
        exact iz
  · refine t_X2_isWithin_5 hm _ _ _ _ ⟨rI_small (by omega) (by omega), rI_small (by omega) (by omega), ?_⟩
    rw [if_pos (by omega)]
    exact ⟨b01_r _, _, by rw [b01_I]; rfl, S, rfl, H⟩
theorem m_bestAsking_ok {K : Int → tw_S → Prop} (hm : pw_base E ≤ m) (hA : a_ok (S.2.2 9) (S.1 24)) (hu : 0 ≤ S.1 28 ∧ S.1 28 ≤ 1) (hB : q_ok (S.2.2 7) (S.1 28)) (hL : q_laid S T) (hd : 4 ≤ d) (H : K (q_best (S.2.2 9) T (q_n (S.2.2 7) (S.1 28))) S) : pw_Cl E m_X2_bestAsking d [va_rf (some m)] (tw w0 m S) (c_i (t_i w0 m K)) := by
  obtain ⟨e, rfl, he⟩ := pw_d1 hd
  have hn := hB.1
  have hr : ∀ z : Nat, -1 ≤ upto z (fun k b => if b = -1 then (k : Int) else if q_sum (S.2.2 9) T k ≤ q_sum (S.2.2 9) T b then b else (k : Int)) (-1) ∧ upto z (fun k b => if b = -1 then (k : Int) else if q_sum (S.2.2 9) T k ≤ q_sum (S.2.2 9) T b then b else (k : Int)) (-1) < z := by
    intro z
    induction z with
    | zero => exact ⟨Int.le_refl _, by show (-1 : Int) < 0; omega⟩
    | succ z iz =>
      rw [upto_s]
      split
      · omega
      · split <;> omega
  refine e_X2_bestAsking _ (t_X2_bestAsking_0 hm (loop_up (n := (q_n (S.2.2 7) (S.1 28)).toNat) (P := fun z => pw_Wp E m_X2_bestAsking (e + 1) 4 [some (va_rf (some m)), some (.int (iI (upto z (fun k b => if b = -1 then (k : Int) else if q_sum (S.2.2 9) T k ≤ q_sum (S.2.2 9) T b then b else (k : Int)) (-1)))), some (.int (iI z))] [] (tw w0 m S) (c_i (t_i w0 m K))) ?_ ?_ 0 (by omega)))
  · intro z hz iz
    have hrz := hr z
    rw [upto_s] at iz
    generalize upto z (fun k b => if b = -1 then (k : Int) else if q_sum (S.2.2 9) T k ≤ q_sum (S.2.2 9) T b then b else (k : Int)) (-1) = b at *
    refine t_X2_bestAsking_4 hm _ _ (m_askedMany_ok hm (by omega) hu ⟨rI_small (by omega) (by omega), rI_small (by omega) (by omega), ?_⟩)
    rw [if_neg (by omega)]
    refine ⟨rI_small (by omega) (by omega), ?_⟩
    by_cases h1 : b = -1
    · rw [if_pos h1]
      rw [if_pos h1] at iz
      exact iz
    · rw [if_neg h1]
      rw [if_neg h1] at iz
      have s1 := q_sum_r (A := S.2.2 9) T z hA.1.2
      have s2 := q_sum_r (A := S.2.2 9) T b hA.1.2
      refine m_versionsBy_ok hm hA hL (by omega) ⟨by omega, by omega⟩ (by omega) (m_versionsBy_ok hm hA hL (by omega) ⟨by omega, by omega⟩ (by omega) ⟨rI_small (by omega) (by omega), rI_small (by omega) (by omega), ?_⟩)
      by_cases h2 : q_sum (S.2.2 9) T z ≤ q_sum (S.2.2 9) T b
      · rw [if_pos h2]
        rw [if_pos h2] at iz
        exact iz
      · rw [if_neg h2]
        rw [if_neg h2] at iz
        exact iz
  · refine t_X2_bestAsking_4 hm _ _ (m_askedMany_ok hm (by omega) hu ⟨rI_small (by omega) (by omega), rI_small (by omega) (by omega), ?_⟩)
    rw [if_pos (by omega)]
    exact ⟨_, rfl, _, S, rfl, rfl, H⟩
theorem m_samePairs_ok {K : Int → tw_S → Prop} (hm : pw_base E ≤ m) (hA : a_ok (S.2.2 9) (S.1 24)) (hu : 0 ≤ S.1 28 ∧ S.1 28 ≤ 1) (hB : q_ok (S.2.2 7) (S.1 28)) (hL : q_laid S T) (hd : 2 ≤ d) (H : K (q_pairs (S.2.2 9) T (q_n (S.2.2 7) (S.1 28))) S) : pw_Cl E m_X2_samePairs d [va_rf (some m)] (tw w0 m S) (c_i (t_i w0 m K)) := by
  obtain ⟨e, rfl, he⟩ := pw_d1 hd
  have hn := hB.1
  refine e_X2_samePairs _ (t_X2_samePairs_0 hm (loop_up (n := (q_n (S.2.2 7) (S.1 28)).toNat) (P := fun z => pw_Wp E m_X2_samePairs (e + 1) 4 [some (va_rf (some m)), some (.int (iI (upto z (fun a c => upto a (fun b (c : Int) => c + (if (q_within (S.2.2 9) T a b && q_within (S.2.2 9) T b a) = true then 1 else 0)) c) 0))), some (.int (iI z)), none] [] (tw w0 m S) (c_i (t_i w0 m K))) ?_ ?_ 0 (by omega)))
  · intro a ha ih
    rw [upto_s] at ih
    refine t_X2_samePairs_4 hm _ _ (m_askedMany_ok hm (by omega) hu ⟨rI_small (by omega) (by omega), rI_small (by omega) (by omega), ?_⟩)
    rw [if_neg (by omega)]
    refine loop_up (n := a) (P := fun b => pw_Wp E m_X2_samePairs (e + 1) 14 [some (va_rf (some m)), some (.int (iI (upto b (fun b (c : Int) => c + (if (q_within (S.2.2 9) T a b && q_within (S.2.2 9) T b a) = true then 1 else 0)) _))), some (.int (iI a)), some (.int (iI b))] [] (tw w0 m S) (c_i (t_i w0 m K))) ?_ ?_ 0 (by omega)
    · intro b hb ib
      rw [upto_s] at ib
      refine t_X2_samePairs_14 hm _ _ _ ⟨rI_small (by omega) (by omega), rI_small (by omega) (by omega), ?_⟩
      rw [if_neg (by omega)]
      refine m_isWithin_ok hm hA hL (by omega) ⟨by omega, by omega⟩ ⟨by omega, by omega⟩ hn.2 ?_
      cases h1 : q_within (S.2.2 9) T a b with
      | true =>
        rw [if_pos rfl]
        rw [h1, Bool.true_and] at ib
        refine m_isWithin_ok hm hA hL (by omega) ⟨by omega, by omega⟩ ⟨by omega, by omega⟩ hn.2 ?_
        cases h2 : q_within (S.2.2 9) T b a with
        | true =>
          rw [if_pos rfl]
          rw [h2, if_pos rfl] at ib
          exact ib
        | false =>
          rw [if_neg (by decide)]
          rw [h2, if_neg (by decide)] at ib
          exact ib
      | false =>
        rw [if_neg (by decide)]
        rw [h1, Bool.false_and, if_neg (by decide)] at ib
        exact ib
    · refine t_X2_samePairs_14 hm _ _ _ ⟨rI_small (by omega) (by omega), rI_small (by omega) (by omega), ?_⟩
      rw [if_pos (by omega)]
      exact ih
  · refine t_X2_samePairs_4 hm _ _ (m_askedMany_ok hm (by omega) hu ⟨rI_small (by omega) (by omega), rI_small (by omega) (by omega), ?_⟩)
    rw [if_pos (by omega)]
    exact ⟨_, rfl, _, S, rfl, rfl, H⟩
end
