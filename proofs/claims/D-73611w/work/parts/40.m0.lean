set_option maxRecDepth 100000
/-! the twin's leaves -/
theorem pw_d1 {k d : Nat} (h : k + 1 ≤ d) : ∃ e : Nat, d = e + 1 ∧ k ≤ e := ⟨d - 1, by omega, by omega⟩
/-- a loop that counts up to n -/
theorem loop_up {P : Nat → Prop} {n : Nat} (h : ∀ k, k < n → P (k + 1) → P k) (he : P n) : ∀ k, k ≤ n → P k := by
  intro k hk
  obtain ⟨j, rfl⟩ := Nat.le.dest hk
  clear hk
  induction j generalizing k with
  | zero => exact he
  | succ j ih => exact h k (by omega) (ih (k + 1) (fun i hi => h i (by omega)) (by rw [show k + 1 + j = k + (j + 1) by omega]; exact he))
/-- x, then f 0, f 1 .. f (n - 1) -/
def upto {α : Type} (n : Nat) (f : Nat → α → α) (x : α) : α := Nat.rec x (fun k a => f k a) n
theorem upto_0 {α : Type} (f : Nat → α → α) (x : α) : upto 0 f x = x := rfl
theorem upto_s {α : Type} (n : Nat) (f : Nat → α → α) (x : α) : upto (n + 1) f x = f n (upto n f x) := rfl
theorem iI_one : (1 : Int32) = iI 1 := rfl
/-- the k-th of a set's numbers -/
def s_has (x k : Int) : Bool := decide (((iI x >>> (iI k &&& 31)) &&& 1) = 1)
def s_ones (x : Int) : Int := upto 10 (fun k n => n + (if s_has x k then 1 else 0)) 0
/-- told: how many versions of d, how long, the k-th token, a token's word and document -/
def a_many (A : Nat → Int) (d : Int) : Int := A (Int.toNat (1 + d))
def a_long (A : Nat → Int) (d v : Int) : Int := A (Int.toNat (46 + (10 * d + v)))
def a_tok (A : Nat → Int) (d v k : Int) : Int := A (Int.toNat (86 + 20 * (10 * d + v) + k))
def a_word (A : Nat → Int) (t : Int) : Int := A (Int.toNat (886 + t))
def a_whose (A : Nat → Int) (t : Int) : Int := A (Int.toNat (1206 + t))
section
variable {E : pw_E} {w0 : pw_W} {m d : Nat} {S : tw_S}
theorem m_in_ok {x a b : Int} {K : Bool → tw_S → Prop} (hm : pw_base E ≤ m) (hd : 1 ≤ d) (hx : rI x) (ha : rI a) (hb : rI b) (H : K (decide (a ≤ x ∧ x ≤ b)) S) : pw_Cl E m_X2_in d [.int (iI x), .int (iI a), .int (iI b)] (tw w0 m S) (c_z (t_b w0 m K)) := by
  obtain ⟨e, rfl, -⟩ := pw_d1 hd
  refine e_X2_in _ _ _ (t_X2_in_0 hm _ _ _ ⟨hx, ha, ?_⟩)
  by_cases h1 : x < a
  · rw [if_pos h1]
    rw [decide_eq_false (by omega)] at H
    exact ⟨false, rfl, S, rfl, H⟩
  · rw [if_neg h1]
    refine ⟨hb, hx, ?_⟩
    by_cases h2 : b < x
    · rw [if_pos h2]
      rw [decide_eq_false (by omega)] at H
      exact ⟨false, rfl, S, rfl, H⟩
    · rw [if_neg h2]
      rw [decide_eq_true (by omega)] at H
      exact ⟨true, rfl, S, rfl, H⟩
theorem m_has_ok {x k : Int} {K : Bool → tw_S → Prop} (hd : 1 ≤ d) (H : K (s_has x k) S) : pw_Cl E m_X2_has d [.int (iI x), .int (iI k)] (tw w0 m S) (c_z (t_b w0 m K)) := by
  obtain ⟨e, rfl, -⟩ := pw_d1 hd
  refine e_X2_has _ _ (s_X2_has_0 _ _ ?_)
  by_cases h1 : ((iI x >>> (iI k &&& 31)) &&& 1) = 1
  · rw [if_pos h1]
    rw [s_has, decide_eq_true h1] at H
    exact ⟨true, rfl, S, rfl, H⟩
  · rw [if_neg h1]
    rw [s_has, decide_eq_false h1] at H
    exact ⟨false, rfl, S, rfl, H⟩
theorem m_at_ok {x k : Int} {K : Int → tw_S → Prop} (hm : pw_base E ≤ m) (hd : 1 ≤ d) (H : K (10 * x + k) S) : pw_Cl E m_X2_at d [.int (iI x), .int (iI k)] (tw w0 m S) (c_i (t_i w0 m K)) := by
  obtain ⟨e, rfl, -⟩ := pw_d1 hd
  exact e_X2_at _ _ (t_X2_at_0 hm _ _ ⟨_, rfl, _, S, rfl, rfl, H⟩)
theorem m_greater_ok {x k : Int} {K : Int → tw_S → Prop} (hm : pw_base E ≤ m) (hd : 1 ≤ d) (hx : rI x) (hk : rI k) (H : K (max x k) S) : pw_Cl E m_X2_greater d [.int (iI x), .int (iI k)] (tw w0 m S) (c_i (t_i w0 m K)) := by
  obtain ⟨e, rfl, -⟩ := pw_d1 hd
  refine e_X2_greater _ _ (t_X2_greater_0 hm _ _ ⟨hx, hk, ?_⟩)
  by_cases h : x ≤ k
  · rw [if_pos h]; rw [Int.max_eq_right h] at H; exact ⟨_, rfl, _, S, rfl, rfl, H⟩
  · rw [if_neg h]; rw [Int.max_eq_left (by omega)] at H; exact ⟨_, rfl, _, S, rfl, rfl, H⟩
theorem m_ones_ok {x : Int} {K : Int → tw_S → Prop} (hm : pw_base E ≤ m) (hd : 2 ≤ d) (H : K (s_ones x) S) : pw_Cl E m_X2_ones d [.int (iI x)] (tw w0 m S) (c_i (t_i w0 m K)) := by
  obtain ⟨e, rfl, he⟩ := pw_d1 hd
  refine e_X2_ones _ (t_X2_ones_0 hm _ (loop_up (n := 10) (P := fun k => pw_Wp E m_X2_ones (e + 1) 4 [some (.int (iI x)), some (.int (iI (upto k (fun k n => n + (if s_has x k then 1 else 0)) 0))), some (.int (iI k))] [] (tw w0 m S) _) ?_ ?_ 0 (by omega)))
  · intro k hk ih
    refine t_X2_ones_4 hm _ _ _ ⟨by constructor <;> omega, ?_⟩
    rw [if_neg (by omega)]
    refine m_has_ok he ?_
    cases hb : s_has x k with
    | true =>
      rw [if_pos rfl]
      simp only [upto_s, hb, if_true] at ih
      exact ih
    | false =>
      rw [if_neg (by decide)]
      simp only [upto_s, hb] at ih
      exact ih
  · refine t_X2_ones_4 hm _ _ _ ⟨by constructor <;> omega, ?_⟩
    rw [if_pos (by decide)]
    exact ⟨_, rfl, _, S, rfl, rfl, H⟩
theorem m_versions_ok {v : Int} {K : Int → tw_S → Prop} (hm : pw_base E ≤ m) (hd : 1 ≤ d) (hv : 0 ≤ v ∧ v < 4) (H : K (a_many (S.2.2 9) v) S) : pw_Cl E m_X2_versions d [va_rf (some m), .int (iI v)] (tw w0 m S) (c_i (t_i w0 m K)) := by
  obtain ⟨e, rfl, -⟩ := pw_d1 hd
  exact e_X2_versions _ _ (t_X2_versions_0 hm _ ⟨by omega, by omega, ⟨_, rfl, _, S, rfl, rfl, H⟩⟩)
theorem m_longOf_ok {a v : Int} {K : Int → tw_S → Prop} (hm : pw_base E ≤ m) (hd : 2 ≤ d) (ha : 0 ≤ a ∧ a < 4) (hv : 0 ≤ v ∧ v < 10) (H : K (a_long (S.2.2 9) a v) S) : pw_Cl E m_X2_longOf d [va_rf (some m), .int (iI a), .int (iI v)] (tw w0 m S) (c_i (t_i w0 m K)) := by
  obtain ⟨e, rfl, he⟩ := pw_d1 hd
  exact e_X2_longOf _ _ _ (t_X2_longOf_0 hm _ _ (m_at_ok hm he ⟨by omega, by omega, ⟨_, rfl, _, S, rfl, rfl, H⟩⟩))
theorem m_tokenAt_ok {a v k : Int} {K : Int → tw_S → Prop} (hm : pw_base E ≤ m) (hd : 2 ≤ d) (ha : 0 ≤ a ∧ a < 4) (hv : 0 ≤ v ∧ v < 10) (hk : 0 ≤ k ∧ k < 20) (H : K (a_tok (S.2.2 9) a v k) S) : pw_Cl E m_X2_tokenAt d [va_rf (some m), .int (iI a), .int (iI v), .int (iI k)] (tw w0 m S) (c_i (t_i w0 m K)) := by
  obtain ⟨e, rfl, he⟩ := pw_d1 hd
  exact e_X2_tokenAt _ _ _ _ (t_X2_tokenAt_0 hm _ _ _ (m_at_ok hm he ⟨by omega, by omega, ⟨_, rfl, _, S, rfl, rfl, H⟩⟩))
theorem m_wordOf_ok {t : Int} {K : Int → tw_S → Prop} (hm : pw_base E ≤ m) (hd : 1 ≤ d) (ht : 0 ≤ t ∧ t < 320) (H : K (a_word (S.2.2 9) t) S) : pw_Cl E m_X2_wordOf d [va_rf (some m), .int (iI t)] (tw w0 m S) (c_i (t_i w0 m K)) := by
  obtain ⟨e, rfl, he⟩ := pw_d1 hd
  exact e_X2_wordOf _ _ (t_X2_wordOf_0 hm _ ⟨by omega, by omega, ⟨_, rfl, _, S, rfl, rfl, H⟩⟩)
end
