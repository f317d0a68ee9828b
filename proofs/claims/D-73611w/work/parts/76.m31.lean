set_option maxRecDepth 100000
/-! the twin: images, the tape, counts -/
def tw_cp1 (S : tw_S) (k w a b : Nat) : tw_S := tw_set S k (fun i => if w * b ≤ i ∧ i < w * b + w then S.2.2 k (w * a + (i - w * b)) else S.2.2 k i)
def tw_cpA (S : tw_S) (a b : Nat) : tw_S := tw_cp1 (tw_cp1 (tw_cp1 (tw_cp1 (tw_cp1 (tw_cp1 (tw_cp1 (tw_cp1 S 1 600 a b) 2 1 a b) 3 1 a b) 4 1 a b) 5 3 a b) 6 3052 a b) 7 114 a b) 8 50 a b
/-- a byte is put behind the tape -/
def fd_put (S : tw_S) (x : Int) : tw_S := tw_sa (tw_sa S 1 (Int.toNat (S.2.2 2 0)) x) 2 0 (S.2.2 2 0 + 1)
def fd_byte (v k : Int) : Int := iB (Int32.toInt (((iI v) >>> ((iI k) &&& 31)).toInt8.toInt32))
def fd_four (S : tw_S) (v : Int) : tw_S := fd_put (fd_put (fd_put (fd_put S (fd_byte v 24)) (fd_byte v 16)) (fd_byte v 8)) (fd_byte v 0)
theorem fd_put_size (S : tw_S) (x : Int) : (fd_put S x).2.2 2 0 = S.2.2 2 0 + 1 := rfl
theorem fd_four_size (S : tw_S) (v : Int) : (fd_four S v).2.2 2 0 = S.2.2 2 0 + 4 := by
  unfold fd_four
  rw [fd_put_size, fd_put_size, fd_put_size, fd_put_size]
  omega
section
variable {E : pw_E} {w0 : pw_W} {m d : Nat} {S : tw_S}
theorem m_copyRow_ok {k w a b : Nat} {K : tw_S → Prop} (hm : pw_base E ≤ m) (hd : 1 ≤ d) (hk : (decide (1 < k) && decide (k < 16)) = true) (hw : 1 ≤ w) (hP : w * a + w ≤ tw_len k) (hQ : w * b + w ≤ tw_len k) (hne : w * a + w ≤ w * b ∨ w * b + w ≤ w * a) (H : K (tw_cp1 S k w a b)) : pw_Cl E m_X2_copyRow d [va_rf (some (m + k)), .int (iI w), .int (iI a), .int (iI b)] (tw w0 m S) (c_v (t_u w0 m K)) := by
  obtain ⟨e, rfl, he⟩ := pw_d1 hd
  have hlen := tw_len_le k
  unfold tw_cp1 at H
  have e1 : (w : Int) * (a : Int) = ((w * a : Nat) : Int) := by simp
  have e2 : (w : Int) * (b : Int) = ((w * b : Nat) : Int) := by simp
  generalize hp : w * a = P at *
  generalize hq : w * b = Q at *
  have loop := loop_up (n := w) (P := fun j => ∀ X : Nat → Int, (∀ i, X i = if Q ≤ i ∧ i < Q + j then S.2.2 k (P + (i - Q)) else S.2.2 k i) → pw_Wp E m_X2_copyRow (e + 1) 3 [some (va_rf (some (m + k))), some (.int (iI w)), some (.int (iI a)), some (.int (iI b)), some (.int (iI j))] [] (tw w0 m (tw_set S k X)) (c_v (t_u w0 m K))) ?_ ?_ 0 (by omega)
  · have := loop (S.2.2 k) (fun i => by rw [if_neg (by omega)])
    rw [tw_set_self] at this
    exact e_X2_copyRow _ _ _ _ (t_X2_copyRow_0 hm k hk _ _ _ this)
  · intro j hj ih X hX
    refine t_X2_copyRow_3 hm k hk _ _ _ _ ⟨rI_small (by omega) (by omega), rI_small (by omega) (by omega), ifF (by omega) ?_⟩
    rw [e1, e2]
    refine ⟨by omega, by omega, by omega, by omega, ?_⟩
    rw [tw_set_sa, tw_set_at]
    refine ih _ (fun i => ?_)
    have ex : X (Int.toNat ((P : Int) + (j : Int))) = S.2.2 k (P + j) := by
      rw [hX, if_neg (by omega)]
      congr 1
    rw [ex]
    by_cases h : i = Q + j
    · rw [if_pos (by omega), if_pos (by omega), show i - Q = j by omega]
    · rw [if_neg (by omega), hX i]
      by_cases h2 : Q ≤ i ∧ i < Q + j
      · rw [if_pos h2, if_pos (by omega)]
      · rw [if_neg h2, if_neg (by omega)]
  · intro X hX
    refine t_X2_copyRow_3 hm k hk _ _ _ _ ⟨rI_small (by omega) (by omega), rI_small (by omega) (by omega), ifT (by omega) ⟨rfl, _, rfl, ?_⟩⟩
    have : X = fun i => if Q ≤ i ∧ i < Q + w then S.2.2 k (P + (i - Q)) else S.2.2 k i := funext hX
    rw [this]
    exact H
theorem m_copyAll_ok {a b : Nat} {K : tw_S → Prop} (hm : pw_base E ≤ m) (hd : 2 ≤ d) (hab : a ≠ b) (ha : a < 4) (hb : b < 4) (hB : ∀ i, i < 2400 → iB (S.2.2 1 i) = S.2.2 1 i) (H : K (tw_cpA S a b)) : pw_Cl E m_X2_copyAll d [va_rf (some m), .int (iI a), .int (iI b)] (tw w0 m S) (c_v (t_u w0 m K)) := by
  obtain ⟨e, rfl, he⟩ := pw_d1 hd
  have loop := loop_up (n := 600) (P := fun j => ∀ X : Nat → Int, (∀ i, X i = if 600 * b ≤ i ∧ i < 600 * b + j then S.2.2 1 (600 * a + (i - 600 * b)) else S.2.2 1 i) → pw_Wp E m_X2_copyAll (e + 1) 2 [some (va_rf (some m)), some (.int (iI a)), some (.int (iI b)), some (.int (iI j))] [] (tw w0 m (tw_set S 1 X)) (c_v (t_u w0 m K))) ?_ ?_ 0 (by omega)
  · have := loop (S.2.2 1) (fun i => by rw [if_neg (by omega)])
    rw [tw_set_self] at this
    exact e_X2_copyAll _ _ _ (t_X2_copyAll_0 hm _ _ this)
  · intro j hj ih X hX
    refine t_X2_copyAll_2 hm _ _ _ ⟨rI_small (by omega) (by omega), ifF (by omega) ⟨by omega, by omega, by omega, by omega, ?_⟩⟩
    rw [tw_set_sa, tw_set_at]
    refine ih _ (fun i => ?_)
    have ex : X (Int.toNat (600 * (a : Int) + (j : Int))) = S.2.2 1 (600 * a + j) := by
      rw [hX, if_neg (by omega)]
      congr 1
    rw [ex, hB _ (by omega)]
    by_cases h : i = 600 * b + j
    · rw [if_pos (by omega), if_pos (by omega), show i - 600 * b = j by omega]
    · rw [if_neg (by omega), hX i]
      by_cases h2 : 600 * b ≤ i ∧ i < 600 * b + j
      · rw [if_pos h2, if_pos (by omega)]
      · rw [if_neg h2, if_neg (by omega)]
  · intro X hX
    refine t_X2_copyAll_2 hm _ _ _ ⟨rI_small (by omega) (by omega), ifT (by omega) ?_⟩
    have : X = fun i => if 600 * b ≤ i ∧ i < 600 * b + 600 then S.2.2 1 (600 * a + (i - 600 * b)) else S.2.2 1 i := funext hX
    rw [this]
    refine m_copyRow_ok (k := 2) (w := 1) hm (by omega) rfl (by omega) (show 1 * a + 1 ≤ 4 by omega) (show 1 * b + 1 ≤ 4 by omega) (by omega) ?_
    refine m_copyRow_ok (k := 3) (w := 1) hm (by omega) rfl (by omega) (show 1 * a + 1 ≤ 4 by omega) (show 1 * b + 1 ≤ 4 by omega) (by omega) ?_
    refine m_copyRow_ok (k := 4) (w := 1) hm (by omega) rfl (by omega) (show 1 * a + 1 ≤ 4 by omega) (show 1 * b + 1 ≤ 4 by omega) (by omega) ?_
    refine m_copyRow_ok (k := 5) (w := 3) hm (by omega) rfl (by omega) (show 3 * a + 3 ≤ 12 by omega) (show 3 * b + 3 ≤ 12 by omega) (by omega) ?_
    refine m_copyRow_ok (k := 6) (w := 3052) hm (by omega) rfl (by omega) (show 3052 * a + 3052 ≤ 12208 by omega) (show 3052 * b + 3052 ≤ 12208 by omega) (by omega) ?_
    refine m_copyRow_ok (k := 7) (w := 114) hm (by omega) rfl (by omega) (show 114 * a + 114 ≤ 456 by omega) (show 114 * b + 114 ≤ 456 by omega) (by omega) ?_
    refine m_copyRow_ok (k := 8) (w := 50) hm (by omega) rfl (by omega) (show 50 * a + 50 ≤ 200 by omega) (show 50 * b + 50 ≤ 200 by omega) (by omega) ?_
    exact ⟨rfl, _, rfl, H⟩
theorem m_count_ok {s : Int} {K : Int → tw_S → Prop} (hm : pw_base E ≤ m) (hd : 2 ≤ d) (hs : rI s) (H : tq S K (if decide (0 ≤ s ∧ s ≤ 2) = true then S.2.2 5 s.toNat else -2)) : pw_Cl E m_X2_count d [va_rf (some m), .int (iI s)] (tw w0 m S) (c_i (t_i w0 m K)) := by
  obtain ⟨e, rfl, he⟩ := pw_d1 hd
  refine e_X2_count _ _ (t_X2_count_0 hm _ (m_in_ok hm (by omega) hs (rI_small (by omega) (by omega)) (rI_small (by omega) (by omega)) ?_))
  refine ifS (K := tq S K) H (fun h H => ?_) (fun h H => ⟨_, rfl, _, _, rfl, rfl, H _ (tw_same.sf S 0 0)⟩)
  have h := of_decide_eq_true h
  exact ⟨by omega, by omega, _, rfl, _, _, rfl, rfl, H _ (tw_same.sf S 0 0)⟩
theorem m_image_ok {k : Int} {K : Bool → tw_S → Prop} (hm : pw_base E ≤ m) (hd : 3 ≤ d) (hk : rI k) (hB : ∀ i, i < 2400 → iB (S.2.2 1 i) = S.2.2 1 i) (H : (0 ≤ k ∧ k ≤ 2 → K true (tw_sa (tw_cpA (tw_sf S 0 0) 0 (k.toNat + 1)) 16 k.toNat 1)) ∧ (¬ (0 ≤ k ∧ k ≤ 2) → K false (tw_sf S 0 0))) : pw_Cl E m_X2_image d [va_rf (some m), .int (iI k)] (tw w0 m S) (c_z (t_b w0 m K)) := by
  obtain ⟨e, rfl, he⟩ := pw_d1 hd
  refine e_X2_image _ _ (t_X2_image_0 hm _ (m_in_ok hm (by omega) hk (rI_small (by omega) (by omega)) (rI_small (by omega) (by omega)) ?_))
  by_cases h : 0 ≤ k ∧ k ≤ 2
  · rw [if_pos (decide_eq_true h)]
    have e1 : iI (k + 1) = iI ((k.toNat + 1 : Nat) : Int) := by congr 1; omega
    rw [e1]
    exact m_copyAll_ok (a := 0) (b := k.toNat + 1) hm (by omega) (by omega) (by omega) (by omega) hB ⟨by omega, by omega, Or.inr rfl, true, rfl, _, rfl, H.1 h⟩
  · rw [if_neg (fun h2 => h (of_decide_eq_true h2))]
    exact ⟨false, rfl, _, rfl, H.2 h⟩
theorem m_again_ok {k : Int} {K : Bool → tw_S → Prop} (hm : pw_base E ≤ m) (hd : 3 ≤ d) (hk : rI k) (hB : ∀ i, i < 2400 → iB (S.2.2 1 i) = S.2.2 1 i) (hs : ∀ i, i < 3 → rI (S.2.2 16 i)) (H : (0 ≤ k ∧ k ≤ 2 → S.2.2 16 k.toNat ≠ 0 → K true (tw_cpA (tw_sf S 0 0) (k.toNat + 1) 0)) ∧ (¬ (0 ≤ k ∧ k ≤ 2) ∨ S.2.2 16 k.toNat = 0 → K false (tw_sf S 0 0))) : pw_Cl E m_X2_again d [va_rf (some m), .int (iI k)] (tw w0 m S) (c_z (t_b w0 m K)) := by
  obtain ⟨e, rfl, he⟩ := pw_d1 hd
  refine e_X2_again _ _ (t_X2_again_0 hm _ (m_in_ok hm (by omega) hk (rI_small (by omega) (by omega)) (rI_small (by omega) (by omega)) ?_))
  by_cases h : 0 ≤ k ∧ k ≤ 2
  · rw [if_pos (decide_eq_true h)]
    refine ⟨by omega, by omega, hs k.toNat (by omega), ?_⟩
    by_cases h9 : S.2.2 16 k.toNat = 0
    · exact ifT h9 ⟨false, rfl, _, rfl, H.2 (Or.inr h9)⟩
    · refine ifF h9 ?_
      have e1 : iI (k + 1) = iI ((k.toNat + 1 : Nat) : Int) := by congr 1; omega
      rw [e1]
      exact m_copyAll_ok (a := k.toNat + 1) (b := 0) hm (by omega) (by omega) (by omega) (by omega) hB ⟨true, rfl, _, rfl, H.1 h h9⟩
  · rw [if_neg (fun h2 => h (of_decide_eq_true h2))]
    exact ⟨false, rfl, _, rfl, H.2 (Or.inl h)⟩
theorem m_four_ok {v : Int} {K : tw_S → Prop} (hm : pw_base E ≤ m) (hd : 1 ≤ d) (hs : 0 ≤ S.2.2 2 0 ∧ S.2.2 2 0 ≤ 596) (H : K (fd_four S v)) : pw_Cl E m_X2_four d [va_rf (some m), .int (iI v)] (tw w0 m S) (c_v (t_u w0 m K)) := by
  obtain ⟨e, rfl, he⟩ := pw_d1 hd
  have step : ∀ (S1 : tw_S) (k : Int), 0 ≤ k ∧ k ≤ 24 → 0 ≤ S1.2.2 2 0 ∧ S1.2.2 2 0 < 600 → pw_Wp E m_X2_four (e + 1) 3 [some (va_rf (some m)), some (.int (iI v)), some (.int (iI (k + -8)))] [] (tw w0 m (fd_put S1 (fd_byte v k))) (c_v (t_u w0 m K)) → pw_Wp E m_X2_four (e + 1) 3 [some (va_rf (some m)), some (.int (iI v)), some (.int (iI k))] [] (tw w0 m S1) (c_v (t_u w0 m K)) := by
    intro S1 k hk hs H
    exact t_X2_four_3 hm _ _ ⟨rI_small (by omega) (by omega), ifF (by omega) ⟨hs.1, by omega, H⟩⟩
  refine e_X2_four _ _ (t_X2_four_0 hm _ ?_)
  refine step S 24 (by omega) ⟨hs.1, by omega⟩ ?_
  refine step _ 16 (by omega) (by rw [fd_put_size]; omega) ?_
  refine step _ 8 (by omega) (by rw [fd_put_size, fd_put_size]; omega) ?_
  refine step _ 0 (by omega) (by rw [fd_put_size, fd_put_size, fd_put_size]; omega) ?_
  exact t_X2_four_3 hm _ _ ⟨rI_small (by omega) (by omega), ifT (by omega) ⟨rfl, _, rfl, H⟩⟩
theorem m_feed_ok {a b c g f : Int} {K : Int → tw_S → Prop} (hm : pw_base E ≤ m) (hd : 2 ≤ d) (hs : 0 ≤ S.2.2 2 0 ∧ S.2.2 2 0 ≤ 600) (H : (S.2.2 2 0 + 20 ≤ 600 → K (S.2.2 2 0 + 20) (fd_four (fd_four (fd_four (fd_four (fd_four (tw_sf S 0 0) a) b) c) g) f)) ∧ (¬ S.2.2 2 0 + 20 ≤ 600 → K (-1) (tw_sf S 0 0))) : pw_Cl E m_X2_feed d [va_rf (some m), .int (iI a), .int (iI b), .int (iI c), .int (iI g), .int (iI f)] (tw w0 m S) (c_i (t_i w0 m K)) := by
  obtain ⟨e, rfl, he⟩ := pw_d1 hd
  have e0 : (tw_sf S 0 0).2.2 2 0 = S.2.2 2 0 := rfl
  refine e_X2_feed _ _ _ _ _ _ (t_X2_feed_0 hm _ _ _ _ _ ⟨rI_small (by omega) (by omega), ?_⟩)
  by_cases h : S.2.2 2 0 + 20 ≤ 600
  · refine ifT h ?_
    refine m_four_ok hm (by omega) (by rw [e0]; omega) (m_four_ok hm (by omega) (by rw [fd_four_size, e0]; omega) (m_four_ok hm (by omega) (by rw [fd_four_size, fd_four_size, e0]; omega) (m_four_ok hm (by omega) (by rw [fd_four_size, fd_four_size, fd_four_size, e0]; omega) (m_four_ok hm (by omega) (by rw [fd_four_size, fd_four_size, fd_four_size, fd_four_size, e0]; omega) ?_))))
    refine ⟨_, rfl, _, _, rfl, rfl, ?_⟩
    have := H.1 h
    rw [fd_four_size, fd_four_size, fd_four_size, fd_four_size, fd_four_size, e0, show S.2.2 2 0 + 4 + 4 + 4 + 4 + 4 = S.2.2 2 0 + 20 by omega]
    exact this
  · exact ifF h ⟨_, rfl, _, _, rfl, rfl, H.2 h⟩
theorem m_end_ok {n : Int} {K : Int → tw_S → Prop} (hm : pw_base E ≤ m) (hd : 2 ≤ d) (hs : 0 ≤ S.2.2 2 0 ∧ S.2.2 2 0 ≤ 600) (hn : rI n) (H : (0 ≤ n ∧ n ≤ S.2.2 2 0 → K n (tw_sa (tw_sf S 0 0) 2 0 n)) ∧ (¬ (0 ≤ n ∧ n ≤ S.2.2 2 0) → K (-1) (tw_sf S 0 0))) : pw_Cl E m_X2_end d [va_rf (some m), .int (iI n)] (tw w0 m S) (c_i (t_i w0 m K)) := by
  obtain ⟨e, rfl, he⟩ := pw_d1 hd
  refine e_X2_end _ _ (t_X2_end_0 hm _ (m_in_ok hm (by omega) hn (rI_small (by omega) (by omega)) (rI_small (by show -1000000000 ≤ S.2.2 2 0; omega) (by show S.2.2 2 0 ≤ 1000000000; omega)) ?_))
  by_cases h : 0 ≤ n ∧ n ≤ S.2.2 2 0
  · rw [if_pos (decide_eq_true h)]
    exact ⟨_, rfl, _, _, rfl, rfl, H.1 h⟩
  · rw [if_neg (fun h2 => h (of_decide_eq_true h2))]
    exact ⟨_, rfl, _, _, rfl, rfl, H.2 h⟩
theorem m_fault_ok {q : Int} {K : Int → tw_S → Prop} (hm : pw_base E ≤ m) (hd : 1 ≤ d) (hq : rI q) (H : tq S K (if q = 0 then S.2.2 3 0 else if q = 1 then S.2.2 4 0 else -1)) : pw_Cl E m_X2_fault d [va_rf (some m), .int (iI q)] (tw w0 m S) (c_i (t_i w0 m K)) := by
  obtain ⟨e, rfl, he⟩ := pw_d1 hd
  have hs := tw_same.sf S 0 0
  exact e_X2_fault _ _ (t_X2_fault_0 hm _ ⟨hq, ifS (K := tq S K) H (fun h H => ⟨_, rfl, _, _, rfl, rfl, H _ hs⟩) (fun h H => ⟨hq, ifS (K := tq S K) H (fun h H => ⟨_, rfl, _, _, rfl, rfl, H _ hs⟩) (fun h H => ⟨_, rfl, _, _, rfl, rfl, H _ hs⟩)⟩)⟩)
end
