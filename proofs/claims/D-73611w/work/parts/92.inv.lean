set_option maxRecDepth 100000
/-! the twin: what always holds of what is told (plain) -/
def sl_w (q : Nat) : Nat := match q with | 1 => 600 | 2 => 1 | 3 => 1 | 4 => 1 | 5 => 3 | 6 => 3052 | 7 => 114 | 8 => 50 | _ => 0
/-- the j-th image (0: as it is) -/
def sl (S : tw_S) (j : Nat) : tw_S := (S.1, S.2.1, fun q i => S.2.2 q (sl_w q * j + i))
def sl_eq (S S' : tw_S) : Prop := ∀ q : Nat, 1 ≤ q → q ≤ 8 → ∀ i, i < sl_w q → S'.2.2 q i = S.2.2 q i
def tw_pub (S : tw_S) : Prop := (0 ≤ S.2.2 2 0 ∧ S.2.2 2 0 ≤ 600) ∧ tw_arok S ∧ tw_qok S ∧ tw_hok S
theorem q_ok_ext {B B' : Nat → Int} {u : Int} (hu : 0 ≤ u ∧ u < 2) (h : ∀ i, i < 114 → B' i = B i) (hB : q_ok B u) : q_ok B' u := by
  have en : q_n B' u = q_n B u := h _ (by omega)
  have ea : ∀ k i : Int, 0 ≤ k → k < 8 → 0 ≤ i → i < 7 → q_at B' u k i = q_at B u k i := fun k i h0 h1 h2 h3 => h _ (by omega)
  obtain ⟨h1, h2, h3⟩ := hB
  refine ⟨by rw [en]; exact h1, fun k i k0 k1 i0 i1 => by rw [ea k i k0 k1 i0 i1]; exact h2 k i k0 k1 i0 i1, fun k k0 k1 => ?_⟩
  rw [en] at k1
  rw [ea k 0 k0 (by omega) (by omega) (by omega), ea k 1 k0 (by omega) (by omega) (by omega), ea k 2 k0 (by omega) (by omega) (by omega)]
  exact h3 k k0 k1
theorem h_ok_ext {B B' : Nat → Int} {u : Int} (hu : 0 ≤ u ∧ u < 2) (h : ∀ i, i < 50 → B' i = B i) (hB : h_ok B u) : h_ok B' u := by
  have en : h_n B' u = h_n B u := h _ (by omega)
  have ea : ∀ k i : Int, 0 ≤ k → k < 8 → 0 ≤ i → i < 3 → h_at B' u k i = h_at B u k i := fun k i h0 h1 h2 h3 => h _ (by omega)
  obtain ⟨h1, h2⟩ := hB
  exact ⟨by rw [en]; exact h1, fun k i k0 k1 i0 i1 => by rw [ea k i k0 k1 i0 i1]; exact h2 k i k0 k1 i0 i1⟩
theorem tw_pub.ext {S S' : tw_S} (h : tw_pub S) (hs : sl_eq S S') : tw_pub S' := by
  obtain ⟨h1, h2, h3, h4⟩ := h
  have e5 : ∀ s, s < 3 → S'.2.2 5 s = S.2.2 5 s := fun s h => hs 5 (by omega) (by omega) s h
  have b0 := h2.1 0 (by omega)
  have b1 := h2.1 1 (by omega)
  have b2 := h2.1 2 (by omega)
  refine ⟨by rw [hs 2 (by omega) (by omega) 0 (by decide)]; exact h1, ⟨fun s hs' => by rw [e5 s hs']; exact h2.1 s hs', fun v v0 v1 => ?_⟩, fun u u0 u1 => ?_, fun u u0 u1 => ?_⟩
  · rw [e5 0 (by omega)] at v1
    have : tw_ar S' v = tw_ar S v := by
      unfold tw_ar
      funext n
      by_cases hn : n < 1526
      · rw [if_pos hn, if_pos hn, hs 6 (by omega) (by omega) _ (show _ < 3052 by omega)]
      · rw [if_neg hn, if_neg hn]
    rw [this]
    exact h2.2 v v0 v1
  · rw [e5 1 (by omega)] at u1
    exact q_ok_ext ⟨u0, by omega⟩ (fun i hi => hs 7 (by omega) (by omega) i hi) (h3 u u0 u1)
  · rw [e5 2 (by omega)] at u1
    exact h_ok_ext ⟨u0, by omega⟩ (fun i hi => hs 8 (by omega) (by omega) i hi) (h4 u u0 u1)
/-- all of it -/
def tw_all (S : tw_S) : Prop := tw_pub S ∧ (∀ i, i < 2400 → iB (S.2.2 1 i) = S.2.2 1 i) ∧ ∀ k, k < 3 → S.2.2 16 k = 0 ∨ (S.2.2 16 k = 1 ∧ tw_pub (sl S (k + 1)))
theorem tw_all.same {S S' : tw_S} (h : tw_all S) (hs : tw_same S S') : tw_all S' := by
  obtain ⟨h1, h2, h3⟩ := h
  have e : ∀ q, 1 ≤ q → q ≤ 8 → S'.2.2 q = S.2.2 q := fun q q1 q2 => hs q (by simp [q2])
  refine ⟨h1.ext (fun q q1 q2 i _ => by rw [e q q1 q2]), fun i hi => by rw [e 1 (by omega) (by omega)]; exact h2 i hi, fun k hk => ?_⟩
  rw [hs 16 rfl]
  rcases h3 k hk with h | ⟨h, h'⟩
  · exact Or.inl h
  · refine Or.inr ⟨h, h'.ext (fun q q1 q2 i _ => ?_)⟩
    show S'.2.2 q _ = S.2.2 q _
    rw [e q q1 q2]
theorem tw_cpA_at (S : tw_S) (a b : Nat) : ∀ q : Nat, 1 ≤ q → q ≤ 8 → ∀ i, (tw_cpA S a b).2.2 q i = if sl_w q * b ≤ i ∧ i < sl_w q * b + sl_w q then S.2.2 q (sl_w q * a + (i - sl_w q * b)) else S.2.2 q i := by
  intro q q1 q2 i
  match q, q1, q2 with
  | 1, _, _ => rfl
  | 2, _, _ => rfl
  | 3, _, _ => rfl
  | 4, _, _ => rfl
  | 5, _, _ => rfl
  | 6, _, _ => rfl
  | 7, _, _ => rfl
  | 8, _, _ => rfl
theorem tw_cpA_16 (S : tw_S) (a b : Nat) : (tw_cpA S a b).2.2 16 = S.2.2 16 := rfl
/-- the copied slot, the others -/
theorem tw_cpA_sl (S : tw_S) (a b : Nat) : sl_eq (sl S a) (sl (tw_cpA S a b) b) ∧ ∀ j, j ≠ b → sl_eq (sl S j) (sl (tw_cpA S a b) j) := by
  constructor
  · intro q q1 q2 i hi
    show (tw_cpA S a b).2.2 q (sl_w q * b + i) = S.2.2 q (sl_w q * a + i)
    rw [tw_cpA_at S a b q q1 q2, if_pos (by omega), show sl_w q * b + i - sl_w q * b = i by omega]
  · intro j hj q q1 q2 i hi
    show (tw_cpA S a b).2.2 q (sl_w q * j + i) = S.2.2 q (sl_w q * j + i)
    rw [tw_cpA_at S a b q q1 q2, if_neg]
    intro h
    rcases Nat.lt_or_gt_of_ne hj with h9 | h9
    · have : sl_w q * (j + 1) ≤ sl_w q * b := Nat.mul_le_mul_left _ h9
      rw [Nat.mul_add, Nat.mul_one] at this
      omega
    · have : sl_w q * (b + 1) ≤ sl_w q * j := Nat.mul_le_mul_left _ h9
      rw [Nat.mul_add, Nat.mul_one] at this
      omega
theorem sl_0 (S : tw_S) : sl_eq S (sl S 0) ∧ sl_eq (sl S 0) S := by
  constructor
  · intro q _ _ i _
    show S.2.2 q (sl_w q * 0 + i) = _
    rw [Nat.mul_zero, Nat.zero_add]
  · intro q _ _ i _
    show _ = S.2.2 q (sl_w q * 0 + i)
    rw [Nat.mul_zero, Nat.zero_add]
theorem tw_cpA_b {S : tw_S} (h : ∀ i, i < 2400 → iB (S.2.2 1 i) = S.2.2 1 i) {a b : Nat} (ha : a < 4) : ∀ i, i < 2400 → iB ((tw_cpA S a b).2.2 1 i) = (tw_cpA S a b).2.2 1 i := by
  intro i hi
  rw [tw_cpA_at S a b 1 (by omega) (by omega)]
  split
  · rename_i h9
    have h9 : 600 * b ≤ i ∧ i < 600 * b + 600 := h9
    exact h _ (show 600 * a + (i - 600 * b) < 2400 by omega)
  · exact h i hi
theorem tw_all.image {S : tw_S} (h : tw_all S) {k : Nat} (hk : k < 3) : tw_all (tw_sa (tw_cpA (tw_sf S 0 0) 0 (k + 1)) 16 k 1) := by
  obtain ⟨h1, h2, h3⟩ := h
  have hc := tw_cpA_sl (tw_sf S 0 0) 0 (k + 1)
  have ne : ∀ j, sl_eq (sl (tw_cpA (tw_sf S 0 0) 0 (k + 1)) j) (sl (tw_sa (tw_cpA (tw_sf S 0 0) 0 (k + 1)) 16 k 1) j) := by
    intro j q q1 q2 i _
    show (tw_sa (tw_cpA (tw_sf S 0 0) 0 (k + 1)) 16 k 1).2.2 q _ = _
    rw [tw_sa_ne _ _ _ (show q ≠ 16 by omega)]
    rfl
  have p0 : tw_pub (sl (tw_sf S 0 0) 0) := h1.ext (sl_0 S).1
  refine ⟨(((p0.ext (hc.2 0 (by omega))).ext (ne 0)).ext (sl_0 _).2), fun i hi => ?_, fun j hj => ?_⟩
  · rw [tw_sa_ne _ _ _ (by decide)]
    exact tw_cpA_b (S := tw_sf S 0 0) h2 (by omega) i hi
  · rw [tw_sa_at, tw_cpA_16]
    by_cases hjk : j = k
    · subst hjk
      refine Or.inr ⟨if_pos rfl, (p0.ext hc.1).ext (ne (j + 1))⟩
    · have e : (fun j => if j = k then 1 else (tw_sf S 0 0).2.2 16 j) j = S.2.2 16 j := by
        show (if j = k then 1 else S.2.2 16 j) = _
        rw [if_neg hjk]
      rw [e]
      rcases h3 j hj with h | ⟨h, h'⟩
      · exact Or.inl h
      · refine Or.inr ⟨h, ?_⟩
        have h' : tw_pub (sl (tw_sf S 0 0) (j + 1)) := h'
        exact (h'.ext (hc.2 (j + 1) (by omega))).ext (ne (j + 1))
theorem tw_all.again {S : tw_S} (h : tw_all S) {k : Nat} (hk : k < 3) (hs : S.2.2 16 k ≠ 0) : tw_all (tw_cpA (tw_sf S 0 0) (k + 1) 0) := by
  obtain ⟨h1, h2, h3⟩ := h
  have hc := tw_cpA_sl (tw_sf S 0 0) (k + 1) 0
  have pk : tw_pub (sl (tw_sf S 0 0) (k + 1)) := by
    rcases h3 k hk with h | ⟨-, h⟩
    · exact absurd h hs
    · exact h
  refine ⟨(pk.ext hc.1).ext (sl_0 _).2, tw_cpA_b (S := tw_sf S 0 0) h2 (by omega), fun j hj => ?_⟩
  rw [tw_cpA_16]
  rcases h3 j hj with h | ⟨h, h'⟩
  · exact Or.inl h
  · have h' : tw_pub (sl (tw_sf S 0 0) (j + 1)) := h'
    exact Or.inr ⟨h, h'.ext (hc.2 (j + 1) (by omega))⟩
/-- the tape and its size alone changed -/
theorem tw_all.tape {S S' : tw_S} (h : tw_all S) (hs : 0 ≤ S'.2.2 2 0 ∧ S'.2.2 2 0 ≤ 600) (h1 : ∀ q, q ≠ 1 → q ≠ 2 → S'.2.2 q = S.2.2 q) (h2 : ∀ i, i ≠ 0 → S'.2.2 2 i = S.2.2 2 i) (h3 : ∀ i, 600 ≤ i → S'.2.2 1 i = S.2.2 1 i) (hb : ∀ i, i < 600 → iB (S'.2.2 1 i) = S'.2.2 1 i) : tw_all S' := by
  obtain ⟨⟨a1, a2, a3, a4⟩, b, c⟩ := h
  refine ⟨⟨hs, ⟨fun s hs' => by rw [h1 5 (by omega) (by omega)]; exact a2.1 s hs', fun v v0 v1 => ?_⟩, fun u u0 u1 => ?_, fun u u0 u1 => ?_⟩, fun i hi => ?_, fun k hk => ?_⟩
  · rw [h1 5 (by omega) (by omega)] at v1
    have : tw_ar S' v = tw_ar S v := by unfold tw_ar; rw [h1 6 (by omega) (by omega)]
    rw [this]
    exact a2.2 v v0 v1
  · rw [h1 5 (by omega) (by omega)] at u1
    rw [h1 7 (by omega) (by omega)]
    exact a3 u u0 u1
  · rw [h1 5 (by omega) (by omega)] at u1
    rw [h1 8 (by omega) (by omega)]
    exact a4 u u0 u1
  · by_cases h9 : i < 600
    · exact hb i h9
    · rw [h3 i (by omega)]; exact b i hi
  · rw [h1 16 (by omega) (by omega)]
    rcases c k hk with h | ⟨h, h'⟩
    · exact Or.inl h
    · refine Or.inr ⟨h, h'.ext (fun q q1 q2 i hi => ?_)⟩
      show S'.2.2 q (sl_w q * (k + 1) + i) = S.2.2 q (sl_w q * (k + 1) + i)
      by_cases e1 : q = 1
      · subst e1
        exact h3 _ (show 600 ≤ 600 * (k + 1) + i by omega)
      · by_cases e2 : q = 2
        · subst e2
          exact h2 _ (show 1 * (k + 1) + i ≠ 0 by omega)
        · rw [h1 q e1 e2]
